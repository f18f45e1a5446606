/-! BASE: the world's classes, the contract's form, rows that carry the world -/
set_option maxRecDepth 100000
abbrev vwCl : List vw_C := [(RX2, TX2, 19), (RX1, TX1, 8), (RX4, TX4, 17), (RX3, TX3, 8), (RX5, TX5, 8), (RX6, TX6, 2), (RX8, TX8, 2), (RJ9, TJ9, 3), (RJ20, TJ20, 4), (RJ1, TJ1, 3), (RJ7, TJ7, 4), (RJ12, TJ12, 4)]
/-- 0 or 1 -/
def bI (b : Bool) : Int32 := if b = true then 1 else 0
theorem bI_nar (b : Bool) : narrow .boolean (.int (bI b)) = .int (bI b) := by cases b <;> rfl
theorem bI_vnar (b : Bool) : vp_nar .boolean (bI b) = bI b := by cases b <;> rfl
theorem x_in {i : Int32} {n : Nat} (h : ¬ (i < 0 ∨ n ≤ i.toNatClampNeg)) : vp_in i n := h
/-- the constant Strings' and the enum's addresses -/
abbrev xK : Type := (Nat → Nat) × (Nat → Nat) × (Nat → Nat)
def sLen : List Nat := [0, 3, 4, 4, 5, 4, 4, 5, 4, 4, 3, 1]
def sByt : List (List Int32) := [[], [98, 97, 114], [100, 114, 97, 119], [104, 101, 97, 112], [115, 116, 117, 99, 107], [102, 105, 108, 108], [112, 105, 110, 103], [108, 101, 97, 114, 110], [119, 97, 105, 116], [115, 105, 108, 111], [101, 121, 101], [32]]
def sHash : List Int32 := [0, 97299, 3091780, 3198444, 109776284, 3143043, 3441010, 102846020, 3641717, 3530329, 100913, 32]
def sRefs : List (String × Nat × String × Nat) := [("PingEye", 36, "", 0), ("PingEye$Parser", 24, "", 0), ("PingEye$Parser", 190, "bar", 1), ("PingEyeModel", 208, "bar", 1), ("PingEye$Parser", 194, "draw", 2), ("PingEyeModel", 220, "draw", 2), ("PingEye$Parser", 199, "heap", 3), ("PingEyeModel", 199, "heap", 3), ("PingEye$Parser", 201, "stuck", 4), ("PingEyeModel", 213, "stuck", 4), ("PingEye$Parser", 203, "fill", 5), ("PingEyeModel", 215, "fill", 5), ("PingEye$Parser", 205, "ping", 6), ("PingEyeModel", 225, "ping", 6), ("PingEye$Parser", 207, "learn", 7), ("PingEyeModel", 230, "learn", 7), ("PingEye$Parser", 209, "wait", 8), ("PingEyeModel", 235, "wait", 8), ("PingEye$Parser", 236, "silo", 9), ("PingEyeModel", 237, "silo", 9), ("PingEye$Parser", 243, "eye", 10), ("PingEyeModel", 239, "eye", 10), ("PingEye", 325, " ", 11)]
/-- the constant Strings: their fields and bytes -/
def eStr (κ : xK) (A : Nat → Prop) (U : State) (H : Heap) : Prop := ∀ i : Nat, i < 12 → va_O "java/lang/String" (κ.1 i) A U H ∧ va_OF "java/lang/String" "coder" "B" (.int 0) (κ.1 i) A U H ∧ va_OF "java/lang/String" "value" "[B" (.ref (κ.2.1 i)) (κ.1 i) A U H ∧ va_OF "java/lang/String" "hash" "I" (.int (sHash.getD i 0)) (κ.1 i) A U H ∧ va_OF "java/lang/String" "hashIsZero" "Z" (.int (if i = 0 then 1 else 0)) (κ.1 i) A U H ∧ va_T .byte (κ.2.1 i) (sLen.getD i 0) (fun j => .int ((sByt.getD i []).getD j 0)) A U H
def eRef (κ : xK) (U : State) : Prop := ∀ q ∈ sRefs, vk_R q.1 q.2.1 q.2.2.1 (κ.1 q.2.2.2) U
def eTok (κ : xK) (A : Nat → Prop) (U : State) (H : Heap) : Prop := va_En "PingEye$Token" "LPingEye$Token;" ["INVALID", "END", "WORD", "NUMBER", "LINE_END"] [] κ.2.2 A U H
def eSta (A : Nat → Prop) (U : State) (H : Heap) : Prop := va_Z "java/lang/String" "COMPACT_STRINGS" "Z" (.int 1) A U H ∧ va_Zq "jdk/internal/util/Preconditions" "SIOOBE_FORMATTER" "Ljava/util/function/BiFunction;" A U H ∧ vx_Zq Bundle.tN "UNASSIGNED_STACK" Bundle.steD A U H ∧ vx_Zq Bundle.tN "SUPPRESSED_SENTINEL" Bundle.listD A U H ∧ (∃ t1 t2 : Nat, va_Z "java/lang/Integer" "DigitOnes" "[B" (.ref t1) A U H ∧ va_T .byte t1 100 (fun j => .int (nI (48 + j % 10))) A U H ∧ va_Z "java/lang/Integer" "DigitTens" "[B" (.ref t2) A U H ∧ va_T .byte t2 100 (fun j => .int (nI (48 + j / 10))) A U H)
/-- pairs of classes that aren't castable -/
def xNc : List (String × String) := [("java/lang/IllegalArgumentException", "java/lang/IndexOutOfBoundsException"), ("PingEye$FormatException", "java/lang/IndexOutOfBoundsException"), ("java/lang/IllegalStateException", "java/lang/IndexOutOfBoundsException"), ("java/lang/IndexOutOfBoundsException", "java/lang/IllegalArgumentException"), ("PingEye$FormatException", "java/lang/IllegalArgumentException"), ("java/lang/IllegalStateException", "java/lang/IllegalArgumentException"), ("java/lang/IndexOutOfBoundsException", "PingEye$FormatException"), ("java/lang/IllegalArgumentException", "PingEye$FormatException"), ("java/lang/IllegalStateException", "PingEye$FormatException"), ("java/lang/IndexOutOfBoundsException", "java/lang/IllegalStateException"), ("java/lang/IllegalArgumentException", "java/lang/IllegalStateException"), ("PingEye$FormatException", "java/lang/IllegalStateException")]
/-- default methods -/
def xDef : List (String × MethodName × MethodName) := [("PingEye$Plain", ⟨"PingEye$Echo", "isHeard", "(I)Z"⟩, ⟨"PingEye$Echo", "isHeard", "(I)Z"⟩), ("PingEye$Plain", ⟨"PingEye$Echo", "isStronger", "(LPingEye$Echo;)Z"⟩, ⟨"PingEye$Echo", "isStronger", "(LPingEye$Echo;)Z"⟩)]
/-- the tables' words that don't ride in lw_all -/
def eTbl (U : State) : Prop := (∀ (a : String) (i : Nat) (b n d h : String), Cond.fieldLinkNest a i b n d h ∈ lw_tbl → va_Nw (.fieldLinkNest a i b n d h) U) ∧ (∀ (a : String) (i : Nat) (x : MethodName) (h : String), Cond.methodLinkNest a i x h ∈ lw_tbl → va_Nw (.methodLinkNest a i x h) U) ∧ (∀ C T : String, Cond.castable C T ∈ lw_tbl → va_Nw (.castable C T) U) ∧ (∀ C : String, Cond.arrayOver (.object C) ∈ lw_tbl → va_AO C U) ∧ (∀ (C : String) (x y : MethodName), (x.cls ≠ "java/lang/invoke/MethodHandle" ∧ x.cls ≠ "java/lang/invoke/VarHandle") → Cond.declares x ∈ lw_tbl → Cond.interfaceMethod x.cls x.cls x.name x.desc ∈ lw_tbl → Cond.publicMethod y ∈ lw_tbl → Cond.unhidden C x.name x.desc ∈ lw_tbl → Cond.castable C x.cls ∈ lw_tbl → va_Fw C x y U) ∧ (∀ q ∈ xNc, va_Nc q.1 q.2 U) ∧ (∀ q ∈ xDef, va_Nw (.landsInDefault q.1 q.2.1 q.2.2) U) ∧ (∀ y : MethodName, Cond.privateMethod y ∈ lw_tbl → va_Nw (.privateMethod y) U)
def E0 (κ : xK) (A : Nat → Prop) (U : State) (H : Heap) : Prop := eStr κ A U H ∧ eRef κ U ∧ eTok κ A U H ∧ eSta A U H ∧ eTbl U
abbrev xEnv : Type := (Nat → Prop) → State → Heap → Prop
def xMoves (E : xEnv) : Prop := ∀ (A B : Nat → Prop) (u U : State) (H H1 : Heap), E A u H → u.WarmedH U.vm → (∀ q, B q → A q) → (∀ q : Nat, q < H.size → ¬ A q → H1[q]? = H[q]?) → E B U H1
/-- what stays: facts of the start's heap that lie outside of A; E0 among them -/
def xStable (κ : xK) (E : xEnv) : Prop := xMoves E ∧ ∀ (A : Nat → Prop) (U : State) (H : Heap), E A U H → E0 κ A U H
theorem E0_moves (κ : xK) : xMoves (E0 κ) := by
  intro A B u U H H1 h hW hAB hk
  obtain ⟨h1, h2, h3, h4, h5⟩ := h
  have hv := hW.alike
  refine ⟨fun i hi => ?_, fun q hq => (h2 q hq).warm hW, ((va_En.moved hv h3).kept hk).narrow hAB, ?_, ?_⟩
  · obtain ⟨a1, a2, a3, a4, a5, a6⟩ := h1 i hi
    exact ⟨((va_O.moved hv a1).kept hk).narrow hAB, ((va_OF.moved hv a2).kept hk).narrow hAB, ((va_OF.moved hv a3).kept hk).narrow hAB, ((va_OF.moved hv a4).kept hk).narrow hAB, ((va_OF.moved hv a5).kept hk).narrow hAB, ((va_T.moved hv a6).kept hk).narrow hAB⟩
  · obtain ⟨a1, a2, a3, a4, t1, t2, b1, b2, b3, b4⟩ := h4
    exact ⟨((va_Z.moved hv a1).kept hk).narrow hAB, ((va_Zq.moved hv a2).kept hk).narrow hAB, ((vx_Zq.moved hv a3).kept hk).narrow hAB, ((vx_Zq.moved hv a4).kept hk).narrow hAB, t1, t2, ((va_Z.moved hv b1).kept hk).narrow hAB, ((va_T.moved hv b2).kept hk).narrow hAB, ((va_Z.moved hv b3).kept hk).narrow hAB, ((va_T.moved hv b4).kept hk).narrow hAB⟩
  · obtain ⟨a1, a2, a3, a4, a5, a6, a7, a8⟩ := h5
    exact ⟨fun a i b n d h hq => (a1 a i b n d h hq).warmF hW, fun a i x h hq => (a2 a i x h hq).warmM hW, fun C T hq => (a3 C T hq).warmC hW, fun C hq => (a4 C hq).moved hv, fun C x y hx c1 c2 c3 c4 c5 => (a5 C x y hx c1 c2 c3 c4 c5).moved hx hv, fun q hq => (a6 q hq).moved hv, fun q hq => (show (Cond.landsInDefault q.1 q.2.1 q.2.2).before #[] (u.setVm U.vm) = true from (Cond.landsInDefault_setVm (args := #[]) (args' := #[]) hv (State.methodFound?_setVm hv _ _ _)).trans (a7 q hq)), fun y hy => (show (Cond.privateMethod y).before #[] (u.setVm U.vm) = true by rw [Cond.privateMethod_setVm hv]; exact a8 y hy)⟩
theorem E0_stable (κ : xK) : xStable κ (E0 κ) := ⟨E0_moves κ, fun _ _ _ h => h⟩
def xC (own : String) (cc : ByteArray) (L : Nat) (ret : Option FieldType) (p : Program) (s : State) (m : MethodId) (args : Array Value) (meth : Method) (c : Code) (A : Nat → Prop) : Prop :=
  p.tables.exec = Jvm.exec ∧ c.code = cc ∧ meth.sig.returnType = ret ∧ meth.locks = false ∧ c.maxLocals = L ∧ s.vm.findClass own = some m.cls ∧ (∀ w ∈ lw_all, w.before args s = true) ∧ (∀ q : Nat, s.heap.size ≤ q → A q)
def xT (E : xEnv) (D : va_G) (tys : List (ClassId × FieldType)) (A : Nat → Prop) (s : State) (H : Heap) (locs : List Loc) (ws : va_W) : Prop :=
  va_K D vwCl tys s ∧ va_P D vwCl ws H ∧ va_D A ws ∧ va_S A s.heap H locs ∧ E A s s.heap
abbrev xPc (E : xEnv) (D : va_G) (tys : List (ClassId × FieldType)) (ws : va_W) (sz : Nat) (av : List Value) : Array Value → State → Prop :=
  va_Pc av (fun U => U.heap.size = sz ∧ va_P D vwCl ws U.heap ∧ va_K D vwCl tys U ∧ va_D (fun _ => True) ws ∧ E (va_A ws sz) U U.heap)
abbrev xB {S : Type} (D : va_G) (tys : List (ClassId × FieldType)) (A : Nat → Prop) (w1 : S → va_W) (u : S) (t : State) : Prop := va_P D vwCl (w1 u) t.heap ∧ va_K D vwCl tys t ∧ va_D A (w1 u)
/-- the model's world: its object, s, stores, isKept, buffer, text -/
abbrev MW (a : Nat → Nat) (dI dZ : ClassId) (F S B K U X : Nat → Int32) : va_W := [(a 0, .inr (0, [.int (F 0), .int (F 1), .ref (a 1), .ref (a 2), .int (F 4), .ref (a 3), .ref (a 4), .int (F 7), .int (F 8), .int (F 9), .int (F 10), .int (F 11), .int (F 12), .int (F 13), .int (F 14), .int (F 15), .int (F 16), .ref (a 5), .int (F 18)])), (a 1, .inl (dI, 113, .inl S)), (a 2, .inl (dI, 1243, .inl B)), (a 3, .inl (dZ, 2, .inl K)), (a 4, .inl (dI, 600, .inl U)), (a 5, .inl (dI, 200, .inl X))]
/-- two int arrays -/
abbrev CW (a : Nat → Nat) (dI : ClassId) (n1 n2 : Nat) (f g : Nat → Int32) : va_W := [(a 0, .inl (dI, n1, .inl f)), (a 1, .inl (dI, n2, .inl g))]
section XB
variable {p : Program} {l : Launch} {e : Env} {R : Room} {s : State} {m : MethodId} {args : Array Value} {below : List Frame} {meth : Method} {c : Code} {H : Heap} {locs : List Loc} {cells slots : Nat} {Q : State → Prop}
variable {κ : xK} {E : xEnv} {D : va_G} {tys : List (ClassId × FieldType)} {A : Nat → Prop} {ws : va_W} {own : String} {cc : ByteArray} {L : Nat} {ret : Option FieldType} {pc : Nat} {ls : Array Slot} {rest : List Value}
theorem xT.sub (T : xT E D tys A s H locs ws) {ws' : va_W} (is : List Nat) (hn : va_nd is = true) (hs : is.map (fun i => ws[i]?) = ws'.map some) (hs2 : is.filterMap (fun i => ws[i]?) = ws') : xT E D tys A s H locs ws' :=
  ⟨T.1, T.2.1.sub is hs2, T.2.2.1.sub is hn hs, T.2.2.2⟩
theorem x_blind {wc : va_W} {sz : Nat} {av : List Value} (hE : xStable κ E) : FrameBlind (xPc E D tys wc sz av) := by
  intro a U g mk q
  obtain ⟨q0, q1, qP, qK, qD, qE⟩ := q
  exact ⟨q0, q1, qP, va_K.moved (u := U) (U := U.calling g mk a) (Vm.Alike.refl U.vm) qK, qD, hE.1 _ _ U (U.calling g mk a) _ _ qE (State.WarmedH.refl U) (fun _ h => h) (fun _ _ _ => rfl)⟩
/-- a method's contract, out of its walk -/
theorem x_start {y : MethodName} {rm : Room} {sz : Nat} {av : List Value} {QcA : (Nat → Prop) → Array Value → State → Outcome → State → Prop} {mc ms : Nat} (hE : xStable κ E) (hy : plainName y.cls = true) (hL : (lg_sl av).length ≤ L)
    (k : ∀ (p : Program) (e : Env) (s : State) (m : MethodId) (below : List Frame) (meth : Method) (c : Code) (A : Nat → Prop), xC y.cls cc L ret p s m av.toArray meth c A → ∀ (H : Heap) (locs : List Loc), H.size = sz → xT E D tys A s H locs ws → ∀ ls : Array Slot, lv_has ls L (lv_args 0 av) →
      W p l e (headSpec (ws_ y cc L ret) rm).room s m av.toArray below meth c H locs 0 0 (MQ below (QcA A) av.toArray s mc ms A) (F0 m 0 ls [])) :
    Met l y (ws_ y cc L ret) rm (xPc E D tys ws sz av) (QcA (va_A ws sz)) mc ms (va_A ws sz) := by
  refine Met.ofW (cc := cc) (maxL := L) (ret := ret) hy rfl ?_
  intro p e s m args below meth c s₁ B hml hv
  obtain ⟨rfl, hsz, hP, hK, hD0, hE0⟩ := hv
  have hts := atoms_spec (ws := ws_ y cc L ret) B.pre
  have hts : ∀ w ∈ lw_all, w.before _ s = true := fun w h => hts w (List.mem_cons_of_mem _ h)
  have hown : s.vm.findClass y.cls = some m.cls := findClass_of_methodNamed B.named
  have hl := lv_entry av (n := L) hL
  rw [lg_entry_eq]
  subst hsz
  exact k p e s m below meth c _ ⟨B.exec, B.bytes, B.returns, B.notSynchronized, hml, hown, hts, fun q h => Or.inr h⟩ _ _ rfl ⟨hK, hP, hD0.self, va_S.rf, hE0⟩ _ hl
/-! rows -/
theorem x_get (C : xC own cc L ret p s m args meth c A) (T : xT E D tys A s H locs ws) {Cn : String} {Tn : u_T} {N ci index a : Nat} {fs : List Value} (q0 : Nat) (he : ws[q0]? = some (a, .inr (ci, fs))) (hc : vwCl[ci]? = some (Cn, Tn, N)) (k : Nat) (hk : k < N) (hin : ∀ w ∈ u_ws Cn Tn N, w ∈ lw_all) (hlink : (Cond.fieldLink own index (Tn k).1 (Tn k).2.1 (Tn k).2.2.1) ∈ lw_all) {v : Value} (hv : fs[k]? = some v) (hdg : decode cc pc = .ok (.getfield index, 3))
    (kk : W p l e R s m args below meth c H locs cells slots Q (F0 m (pc + 3) ls (v :: rest))) : W p l e R s m args below meth c H locs cells slots Q (F0 m pc ls (.ref a :: rest)) := by
  obtain ⟨hx, hb, hr, hlk, hml, hown, hts, hA⟩ := C
  obtain ⟨hK, hP, hD, hS, hE⟩ := T
  exact va_get hx hb hts hin hown hK hP q0 he hc k hk (hts _ hlink) (fun _ h => h) hv hdg kk
theorem x_put (C : xC own cc L ret p s m args meth c A) (T : xT E D tys A s H locs ws) {Cn : String} {Tn : u_T} {N ci index a : Nat} {fs : List Value} (ty0 : Nat → FieldType) (hty : ∀ k, k < N → parseFieldDescriptor (Tn k).2.2.1 = some (ty0 k)) (hnm : ∀ a, a < N → ∀ b, b < N → a ≠ b → (Tn a).2.1 ≠ (Tn b).2.1) (q0 : Nat) (he : ws[q0]? = some (a, .inr (ci, fs))) (hc : vwCl[ci]? = some (Cn, Tn, N)) (k : Nat) (hk : k < N) (hin : ∀ w ∈ u_ws Cn Tn N, w ∈ lw_all) (hlink : (Cond.fieldLink own index (Tn k).1 (Tn k).2.1 (Tn k).2.2.1) ∈ lw_all) (hfin : (Tn k).2.2.2 = false) {ty : FieldType} {v : Value} (hd : parseFieldDescriptor (Tn k).2.2.1 = some ty) (hn : narrow ty v = v) (hfit : fits ty v = true) (hl : k < fs.length) (hdg : decode cc pc = .ok (.putfield index, 3))
    (kk : ∀ (H1 : Heap) (locs1 : List Loc), xT E D tys A s H1 locs1 (ws.set q0 (a, .inr (ci, fs.set k v))) → W p l e R s m args below meth c H1 locs1 cells slots Q (F0 m (pc + 3) ls rest)) : W p l e R s m args below meth c H locs cells slots Q (F0 m pc ls (v :: .ref a :: rest)) := by
  obtain ⟨hx, hb, hr, hlk, hml, hown, hts, hA⟩ := C
  obtain ⟨hK, hP, hD, hS, hE⟩ := T
  exact va_put hx hb hts hin ty0 hty hnm hown hK hP hD hS q0 he hc k hk (hts _ hlink) (fun _ h => h) hfin hd hn hfit hl hdg (fun H1 locs1 hP hD hS => kk H1 locs1 ⟨hK, hP, hD, hS, hE⟩)
theorem x_iald (C : xC own cc L ret p s m args meth c A) (T : xT E D tys A s H locs ws) (q0 t0 : Nat) {a : Nat} {cA : ClassId} {n : Nat} {f : Nat → Int32} (ha : ws[q0]? = some (a, .inl (cA, n, .inl f))) (ht : tys[t0]? = some (cA, .int)) {i : Int32} (hin : vp_in i n) {j : Nat} (hj : i.toNatClampNeg = j) (hdg : decode cc pc = .ok (.iaload, 1))
    (kk : W p l e R s m args below meth c H locs cells slots Q (F0 m (pc + 1) ls (.int (f j) :: rest))) : W p l e R s m args below meth c H locs cells slots Q (F0 m pc ls (.int i :: .ref a :: rest)) := by
  subst hj
  exact va_iald C.1 C.2.1 T.1 T.2.1 q0 t0 ha ht hin hdg kk
theorem x_zald (C : xC own cc L ret p s m args meth c A) (T : xT E D tys A s H locs ws) (q0 t0 : Nat) {a : Nat} {cA : ClassId} {n : Nat} {f : Nat → Int32} (ha : ws[q0]? = some (a, .inl (cA, n, .inl f))) (ht : tys[t0]? = some (cA, .boolean)) {i : Int32} (hin : vp_in i n) {j : Nat} (hj : i.toNatClampNeg = j) (hdg : decode cc pc = .ok (.baload, 1))
    (kk : W p l e R s m args below meth c H locs cells slots Q (F0 m (pc + 1) ls (.int (f j) :: rest))) : W p l e R s m args below meth c H locs cells slots Q (F0 m pc ls (.int i :: .ref a :: rest)) := by
  subst hj
  exact va_zald C.1 C.2.1 T.1 T.2.1 q0 t0 ha ht hin hdg kk
theorem x_iast (C : xC own cc L ret p s m args meth c A) (T : xT E D tys A s H locs ws) (q0 t0 : Nat) {a : Nat} {cA : ClassId} {n : Nat} {f : Nat → Int32} (ha : ws[q0]? = some (a, .inl (cA, n, .inl f))) (ht : tys[t0]? = some (cA, .int)) {i x : Int32} (hin : vp_in i n) {j : Nat} (hj : i.toNatClampNeg = j) (hdg : decode cc pc = .ok (.iastore, 1))
    (kk : ∀ (H1 : Heap) (locs1 : List Loc), xT E D tys A s H1 locs1 (ws.set q0 (a, .inl (cA, n, .inl (upd f j x)))) → W p l e R s m args below meth c H1 locs1 cells slots Q (F0 m (pc + 1) ls rest)) : W p l e R s m args below meth c H locs cells slots Q (F0 m pc ls (.int x :: .int i :: .ref a :: rest)) := by
  subst hj
  obtain ⟨hK, hP, hD, hS, hE⟩ := T
  exact va_iast C.1 C.2.1 hK hP hD hS q0 t0 ha ht hin hdg (fun H1 locs1 hP hD hS => kk H1 locs1 ⟨hK, hP, hD, hS, hE⟩)
theorem x_zast (C : xC own cc L ret p s m args meth c A) (T : xT E D tys A s H locs ws) (q0 t0 : Nat) {a : Nat} {cA : ClassId} {n : Nat} {f : Nat → Int32} (ha : ws[q0]? = some (a, .inl (cA, n, .inl f))) (ht : tys[t0]? = some (cA, .boolean)) {i x : Int32} (hin : vp_in i n) {j : Nat} (hj : i.toNatClampNeg = j) (hnx : vp_nar .boolean x = x) (hdg : decode cc pc = .ok (.bastore, 1))
    (kk : ∀ (H1 : Heap) (locs1 : List Loc), xT E D tys A s H1 locs1 (ws.set q0 (a, .inl (cA, n, .inl (upd f j x)))) → W p l e R s m args below meth c H1 locs1 cells slots Q (F0 m (pc + 1) ls rest)) : W p l e R s m args below meth c H locs cells slots Q (F0 m pc ls (.int x :: .int i :: .ref a :: rest)) := by
  subst hj
  obtain ⟨hK, hP, hD, hS, hE⟩ := T
  refine va_zast C.1 C.2.1 hK hP hD hS q0 t0 ha ht hin hdg (fun H1 locs1 hP hD hS => kk H1 locs1 ⟨hK, ?_, ?_, hS, hE⟩)
  · rw [hnx] at hP; exact hP
  · rw [hnx] at hD; exact hD
/-! ends -/
variable {mc ms : Nat} {S : Type} {w1 : S → va_W} {u : S}
theorem x_iret (C : xC own cc L (some .int) p s m args meth c A) {post : Int32 → S → Prop} {r : Int32} (T : xT E D tys A s H locs (w1 u)) (hq : post r u) (hc : cells ≤ mc) (hs : slots ≤ ms) (hdg : decode cc pc = .ok (.ireturn, 1)) :
    W p l e R s m args below meth c H locs cells slots (MQ below (va_Qi post (xB D tys A w1) A) args s mc ms A) (F0 m pc ls [.int r]) := by
  obtain ⟨hx, hb, hr, hlk, hml, hown, hts, hA⟩ := C
  obtain ⟨hK, hP, hD, hS, hE⟩ := T
  refine W.widen hc hs ?_
  exact W.iret hx hb hr (fun t ht hW => ⟨⟨r, u, rfl, hq, by rw [ht]; exact hP, va_K.moved hW.alike hK, hD⟩, hS.F ht⟩) hS.2.2 hdg hlk
theorem x_zret (C : xC own cc L (some .boolean) p s m args meth c A) {post : Bool → S → Prop} {r : Int32} {b : Bool} (T : xT E D tys A s H locs (w1 u)) (hrb : r = bI b) (hq : post b u) (hc : cells ≤ mc) (hs : slots ≤ ms) (hdg : decode cc pc = .ok (.ireturn, 1)) :
    W p l e R s m args below meth c H locs cells slots (MQ below (va_Qi (fun r u => ∃ b : Bool, r = bI b ∧ post b u) (xB D tys A w1) A) args s mc ms A) (F0 m pc ls [.int r]) := by
  obtain ⟨hx, hb, hr, hlk, hml, hown, hts, hA⟩ := C
  obtain ⟨hK, hP, hD, hS, hE⟩ := T
  subst hrb
  refine W.widen hc hs ?_
  exact W.zret hx hb hr (bI_nar b) (fun t ht hW => ⟨⟨bI b, u, rfl, ⟨b, rfl, hq⟩, by rw [ht]; exact hP, va_K.moved hW.alike hK, hD⟩, hS.F ht⟩) hS.2.2 hdg hlk
theorem x_vret (C : xC own cc L none p s m args meth c A) {post : S → Prop} (T : xT E D tys A s H locs (w1 u)) (hq : post u) (hc : cells ≤ mc) (hs : slots ≤ ms) (hdg : decode cc pc = .ok (.return_, 1)) :
    W p l e R s m args below meth c H locs cells slots (MQ below (va_Qv post (xB D tys A w1) A) args s mc ms A) (F0 m pc ls []) := by
  obtain ⟨hx, hb, hr, hlk, hml, hown, hts, hA⟩ := C
  obtain ⟨hK, hP, hD, hS, hE⟩ := T
  refine W.widen hc hs ?_
  exact W.vret hx hb hr (fun t ht hW => ⟨⟨u, rfl, hq, by rw [ht]; exact hP, va_K.moved hW.alike hK, hD⟩, hS.F ht⟩) hS.2.2 hdg hlk
theorem x_fret (C : xC own cc L (some .float) p s m args meth c A) {post : UInt32 → S → Prop} {r : UInt32} (T : xT E D tys A s H locs (w1 u)) (hq : post r u) (hc : cells ≤ mc) (hs : slots ≤ ms) (hdg : decode cc pc = .ok (.freturn, 1)) :
    W p l e R s m args below meth c H locs cells slots (MQ below (va_Qf post (xB D tys A w1) A) args s mc ms A) (F0 m pc ls [.float r]) := by
  obtain ⟨hx, hb, hr, hlk, hml, hown, hts, hA⟩ := C
  obtain ⟨hK, hP, hD, hS, hE⟩ := T
  refine W.widen hc hs ?_
  exact W.fret hx hb hr (fun t ht hW => ⟨⟨r, u, rfl, hq, by rw [ht]; exact hP, va_K.moved hW.alike hK, hD⟩, hS.F ht⟩) hS.2.2 hdg hlk
theorem x_dret (C : xC own cc L (some .double) p s m args meth c A) {post : UInt64 → S → Prop} {r : UInt64} (T : xT E D tys A s H locs (w1 u)) (hq : post r u) (hc : cells ≤ mc) (hs : slots ≤ ms) (hdg : decode cc pc = .ok (.dreturn, 1)) :
    W p l e R s m args below meth c H locs cells slots (MQ below (va_Qd post (xB D tys A w1) A) args s mc ms A) (F0 m pc ls [.double r]) := by
  obtain ⟨hx, hb, hr, hlk, hml, hown, hts, hA⟩ := C
  obtain ⟨hK, hP, hD, hS, hE⟩ := T
  refine W.widen hc hs ?_
  exact W.dret hx hb hr (fun t ht hW => ⟨⟨r, u, rfl, hq, by rw [ht]; exact hP, va_K.moved hW.alike hK, hD⟩, hS.F ht⟩) hS.2.2 hdg hlk
/-! calls -/
variable {wc wr : va_W} {y : MethodName} {bytes : ByteArray} {maxL n index b : Nat} {ret1 : Option FieldType} {ws1 : List Cond} {rm : Room} {As : List Value} {Qc : Array Value → State → Outcome → State → Prop} {free : Addr → Prop} {Cn : String}
theorem x_recv (T : xT E D tys A s H locs ws) {a q0 ci : Nat} {q : vw_C} {fs : List Value} (hc : vwCl[ci]? = some q) (he : ws[q0]? = some (a, .inr (ci, fs))) : ∃ cell : Cell, H[a]? = some cell ∧ cell.vm.isStatics = false ∧ s.vm.findClass q.1 = some cell.cls := va_recv T.1 T.2.1 hc he
theorem x_pre (hE : xStable κ E) (C : xC own cc L ret p s m args meth c A) (T : xT E D tys A s H locs ws) (isC : List Nat) (hC : isC.map (fun i => ws[i]?) = wc.map some) (hC2 : isC.filterMap (fun i => ws[i]?) = wc) (hn : va_nd isC = true) (av : List Value) : PreS s H (xPc E D tys wc H.size av) av := by
  obtain ⟨hx, hb, hr, hlk, hml, hown, hts, hA⟩ := C
  obtain ⟨hK, hP, hD, hS, hE0⟩ := T
  refine ⟨x_blind hE, fun U hU hW => ⟨rfl, by rw [hU], by rw [hU]; exact hP.sub isC hC2, va_K.moved hW.alike hK, (hD.sub isC hn hC).weaken (fun _ _ _ _ => trivial), ?_⟩⟩
  rw [hU]
  exact hE.1 _ _ _ _ _ _ hE0 hW (va_free hD hS hA isC hC) hS.2.1
theorem x_runV (hE : xStable κ E) (C : xC own cc L ret p s m args meth c A) (T : xT E D tys A s H locs ws) (isC : List Nat) (hC : isC.map (fun i => ws[i]?) = wc.map some) (hC2 : isC.filterMap (fun i => ws[i]?) = wc) (hn : va_nd isC = true) (hM : Met l y ws1 rm (xPc E D tys wc H.size (.ref b :: As)) Qc mc ms free) (cw : CallW R s args own Cn index y bytes maxL ret1 ws1 rm mc ms n)
    (hrc : ∃ cell : Cell, H[b]? = some cell ∧ cell.vm.isStatics = false ∧ s.vm.findClass Cn = some cell.cls) (hlen : As.length = n) (hls : ls.size = L) (hW : 2 * (F0 m pc ls (As.reverse ++ .ref b :: rest)).monitorRoom + (rest.map fun v => v.category).sum ≤ 8) (hdg : decode cc pc = .ok (.invokevirtual index, 3)) (hf : cells + mc ≤ R.cells ∧ slots + ms ≤ R.slots) :
    va_Run p l e R s m args below meth c H locs cells slots mc ms (F0 m pc ls (As.reverse ++ .ref b :: rest)) rest (Qc (Value.ref b :: As).toArray) free := by
  have hp := x_pre hE C T isC hC hC2 hn (.ref b :: As)
  exact va_runV ⟨C.1, C.2.1, C.2.2.2.2.1, C.2.2.2.2.2.1, C.2.2.2.2.2.2.1⟩ hM cw ⟨hp.1, hrc, hp.2⟩ rfl hlen hls rfl hW hdg hf
theorem x_runS (hE : xStable κ E) (C : xC own cc L ret p s m args meth c A) (T : xT E D tys A s H locs ws) (isC : List Nat) (hC : isC.map (fun i => ws[i]?) = wc.map some) (hC2 : isC.filterMap (fun i => ws[i]?) = wc) (hn : va_nd isC = true) (hM : Met l y ws1 rm (xPc E D tys wc H.size As) Qc mc ms free) (cw : CallB R s args own index y bytes maxL ret1 ws1 rm mc ms n ∧ (Cond.static y).before args s = true)
    (hlen : As.length = n) (hls : ls.size = L) (hW : 2 * (F0 m pc ls (As.reverse ++ rest)).monitorRoom + (rest.map fun v => v.category).sum ≤ 8) (hdg : decode cc pc = .ok (.invokestatic index, 3)) (hf : cells + mc ≤ R.cells ∧ slots + ms ≤ R.slots) :
    va_Run p l e R s m args below meth c H locs cells slots mc ms (F0 m pc ls (As.reverse ++ rest)) rest (Qc As.toArray) free :=
  va_runS ⟨C.1, C.2.1, C.2.2.2.2.1, C.2.2.2.2.2.1, C.2.2.2.2.2.2.1⟩ hM cw (x_pre hE C T isC hC hC2 hn As) rfl hlen hls rfl hW hdg hf
theorem x_back (hE : xStable κ E) (C : xC own cc L ret p s m args meth c A) (T : xT E D tys A s H locs ws) (isC isR : List Nat) (hC : isC.map (fun i => ws[i]?) = wc.map some) (hR : isR.map (fun i => ws[i]?) = wr.map some) (hn : va_nd isR = true) (hdis : ∀ i ∈ isR, i ∉ isC)
    {H1 : Heap} {locs1 : List Loc} {t : State} (ht : t.heap = H1) (hvm : s.vm.Alike t.vm) (hB : xB D tys (va_A wc H.size) w1 u t) (hk : ∀ q : Nat, q < H.size → ¬ va_A wc H.size q → H1[q]? = H[q]?) (hS1 : va_S A s.heap H1 locs1) : xT E D tys A s H1 locs1 (wr ++ w1 u) := by
  obtain ⟨hx, hb, hr, hlk, hml, hown, hts, hA⟩ := C
  obtain ⟨hK, hP, hD, hS, hE0⟩ := T
  obtain ⟨hP1, hK1, hD1⟩ := hB
  rw [ht] at hP1
  obtain ⟨hP2, hD2⟩ := va_join hP hD isC isR hC hR hn hdis hk (va_free hD hS hA isC hC) hP1 hD1
  exact ⟨va_K.moved hvm.symm hK1, hP2, hD2, hS1, hE0⟩
variable {a : Array Value} {st0 : List Value}
theorem x_ci {post : Int32 → S → Prop} (hE : xStable κ E) (C : xC own cc L ret p s m args meth c A) (T : xT E D tys A s H locs ws) (isC isR : List Nat) (hC : isC.map (fun i => ws[i]?) = wc.map some) (hR : isR.map (fun i => ws[i]?) = wr.map some) (hn : va_nd isR = true) (hdis : ∀ i ∈ isR, i ∉ isC)
    (hr : va_Run p l e R s m args below meth c H locs cells slots mc ms (F0 m pc ls st0) rest (va_Qi post (xB D tys (va_A wc H.size) w1) (va_A wc H.size) a) (va_A wc H.size))
    (kk : ∀ (r : Int32) (u : S) (H1 : Heap) (locs1 : List Loc), post r u → xT E D tys A s H1 locs1 (wr ++ w1 u) → W p l e R s m args below meth c H1 locs1 (cells + mc) (slots + ms) Q (F0 m (pc + 3) ls (.int r :: rest))) : W p l e R s m args below meth c H locs cells slots Q (F0 m pc ls st0) := by
  have hF := va_free T.2.2.1 T.2.2.2.1 C.2.2.2.2.2.2.2 isC hC
  exact va_calli hr T.2.2.2.1 (fun q _ h => hF q h) hF (fun r u t H1 locs1 ht hvm hq hB hz hk hS1 => kk r u H1 locs1 hq (x_back hE C T isC isR hC hR hn hdis ht hvm hB hk hS1))
theorem x_cv {post : S → Prop} (hE : xStable κ E) (C : xC own cc L ret p s m args meth c A) (T : xT E D tys A s H locs ws) (isC isR : List Nat) (hC : isC.map (fun i => ws[i]?) = wc.map some) (hR : isR.map (fun i => ws[i]?) = wr.map some) (hn : va_nd isR = true) (hdis : ∀ i ∈ isR, i ∉ isC)
    (hr : va_Run p l e R s m args below meth c H locs cells slots mc ms (F0 m pc ls st0) rest (va_Qv post (xB D tys (va_A wc H.size) w1) (va_A wc H.size) a) (va_A wc H.size))
    (kk : ∀ (u : S) (H1 : Heap) (locs1 : List Loc), post u → xT E D tys A s H1 locs1 (wr ++ w1 u) → W p l e R s m args below meth c H1 locs1 (cells + mc) (slots + ms) Q (F0 m (pc + 3) ls rest)) : W p l e R s m args below meth c H locs cells slots Q (F0 m pc ls st0) := by
  have hF := va_free T.2.2.1 T.2.2.2.1 C.2.2.2.2.2.2.2 isC hC
  exact va_callv hr T.2.2.2.1 (fun q _ h => hF q h) hF (fun u t H1 locs1 ht hvm hq hB hz hk hS1 => kk u H1 locs1 hq (x_back hE C T isC isR hC hR hn hdis ht hvm hB hk hS1))
theorem x_cf {post : UInt32 → S → Prop} (hE : xStable κ E) (C : xC own cc L ret p s m args meth c A) (T : xT E D tys A s H locs ws) (isC isR : List Nat) (hC : isC.map (fun i => ws[i]?) = wc.map some) (hR : isR.map (fun i => ws[i]?) = wr.map some) (hn : va_nd isR = true) (hdis : ∀ i ∈ isR, i ∉ isC)
    (hr : va_Run p l e R s m args below meth c H locs cells slots mc ms (F0 m pc ls st0) rest (va_Qf post (xB D tys (va_A wc H.size) w1) (va_A wc H.size) a) (va_A wc H.size))
    (kk : ∀ (r : UInt32) (u : S) (H1 : Heap) (locs1 : List Loc), post r u → xT E D tys A s H1 locs1 (wr ++ w1 u) → W p l e R s m args below meth c H1 locs1 (cells + mc) (slots + ms) Q (F0 m (pc + 3) ls (.float r :: rest))) : W p l e R s m args below meth c H locs cells slots Q (F0 m pc ls st0) := by
  have hF := va_free T.2.2.1 T.2.2.2.1 C.2.2.2.2.2.2.2 isC hC
  exact va_callf hr T.2.2.2.1 (fun q _ h => hF q h) hF (fun r u t H1 locs1 ht hvm hq hB hz hk hS1 => kk r u H1 locs1 hq (x_back hE C T isC isR hC hR hn hdis ht hvm hB hk hS1))
theorem x_cd {post : UInt64 → S → Prop} (hE : xStable κ E) (C : xC own cc L ret p s m args meth c A) (T : xT E D tys A s H locs ws) (isC isR : List Nat) (hC : isC.map (fun i => ws[i]?) = wc.map some) (hR : isR.map (fun i => ws[i]?) = wr.map some) (hn : va_nd isR = true) (hdis : ∀ i ∈ isR, i ∉ isC)
    (hr : va_Run p l e R s m args below meth c H locs cells slots mc ms (F0 m pc ls st0) rest (va_Qd post (xB D tys (va_A wc H.size) w1) (va_A wc H.size) a) (va_A wc H.size))
    (kk : ∀ (r : UInt64) (u : S) (H1 : Heap) (locs1 : List Loc), post r u → xT E D tys A s H1 locs1 (wr ++ w1 u) → W p l e R s m args below meth c H1 locs1 (cells + mc) (slots + ms) Q (F0 m (pc + 3) ls (.double r :: rest))) : W p l e R s m args below meth c H locs cells slots Q (F0 m pc ls st0) := by
  have hF := va_free T.2.2.1 T.2.2.2.1 C.2.2.2.2.2.2.2 isC hC
  exact va_calld hr T.2.2.2.1 (fun q _ h => hF q h) hF (fun r u t H1 locs1 ht hvm hq hB hz hk hS1 => kk r u H1 locs1 hq (x_back hE C T isC isR hC hR hn hdis ht hvm hB hk hS1))
/-- a tableswitch to its default, by a key within as well -/
theorem x_tableD (hexec : p.tables.exec = Jvm.exec) (hb : c.code = cc) {dflt lo hi : Int} {offs : Array Int} {len : Nat} {x : Int32} {tgt : Nat} (hdg : decode cc pc = .ok (.tableswitch dflt lo hi offs, len)) (ht : (pc : Int) + dflt = (tgt : Int))
    (h : x.toInt < lo ∨ hi < x.toInt ∨ (lo ≤ x.toInt ∧ x.toInt ≤ hi ∧ offs[(x.toInt - lo).toNat]? = some dflt))
    (k : W p l e R s m args below meth c H locs cells slots Q (F0 m tgt ls rest)) : W p l e R s m args below meth c H locs cells slots Q (F0 m pc ls (.int x :: rest)) := by
  rcases h with h | h | ⟨h1, h2, h3⟩
  · exact lv_tableOut hexec hb hdg (Or.inl h) ht k
  · exact lv_tableOut hexec hb hdg (Or.inr h) ht k
  · exact lv_tableIn hexec hb hdg (by omega) (by omega) h3 ht k
end XB
