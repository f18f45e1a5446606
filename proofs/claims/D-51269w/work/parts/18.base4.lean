/-! BASE 4: calls through an interface -/
set_option maxRecDepth 100000
section XF
variable {p : Program} {l : Launch} {e : Env} {R : Room} {s : State} {m : MethodId} {args : Array Value} {below : List Frame} {meth : Method} {c : Code} {H : Heap} {locs : List Loc} {cells slots : Nat} {Q : State → Prop}
variable {κ : xK} {E E' : xEnv} {D : va_G} {tys : List (ClassId × FieldType)} {A : Nat → Prop} {ws X pl wc wr : va_W} {own : String} {cc : ByteArray} {L : Nat} {ret : Option FieldType} {pc : Nat} {ls : Array Slot} {rest : List Value}
variable {x9 y : MethodName} {bytes : ByteArray} {maxL n index count b mc ms : Nat} {ret1 : Option FieldType} {ws1 ws' : List Cond} {rm : Room} {As : List Value} {Qc : Array Value → State → Outcome → State → Prop} {free : Addr → Prop} {Cn : String}
theorem x_sameF {ref owner name desc : String} (h : (Cond.sameField ref owner name desc).before args s = true) : ∀ x, s.fieldFound? owner name desc = some x → s.fieldFound? ref name desc = some x := u_same h
/-- the receiver's class is known -/
theorem x_cls (T : xT E D tys A s H locs ws) {ci : Nat} {q : vw_C} (hc : vwCl[ci]? = some q) : ∃ cC : ClassId, ClassAt s q.1 cC := ⟨_, (T.1.1 ci q hc).2⟩
theorem x_rF (C : xC own cc L ret p s m args meth c A) (T : xT E D tys A s H locs ws) {ci : Nat} {q : vw_C} (hcq : vwCl[ci]? = some q) (hp : PreS s H (xPc E' D tys wc H.size (.ref b :: As)) (.ref b :: As)) (hM : Met l y ws1 rm (xPc E' D tys wc H.size (.ref b :: As)) Qc mc ms free) (cw : va_CI R s args own q.1 index x9 y bytes maxL ret1 ws1 rm mc ms n)
    (hrc : ∃ cell : Cell, H[b]? = some cell ∧ cell.vm.isStatics = false ∧ s.vm.findClass q.1 = some cell.cls) (hlen : As.length = n) (hls : ls.size = L) (hW : 2 * (F0 m pc ls (As.reverse ++ .ref b :: rest)).monitorRoom + (rest.map fun v => v.category).sum ≤ 8) (hdg : decode cc pc = .ok (.invokeinterface index count, 5)) (hf : cells + mc ≤ R.cells ∧ slots + ms ≤ R.slots) :
    va_Run5 p l e R s m args below meth c H locs cells slots mc ms (F0 m pc ls (As.reverse ++ .ref b :: rest)) rest (Qc (Value.ref b :: As).toArray) free := by
  obtain ⟨cC, hat⟩ := x_cls T hcq
  exact va_runF hat (xFix C) hM cw ⟨hp.1, hrc, hp.2⟩ rfl hlen hls rfl hW hdg hf
theorem x_dfl {s : State} {args : Array Value} {C : String} {x y : MethodName} (h : va_Nw (.landsInDefault C x y) s) : (Cond.landsInDefault C x y).before args s = true :=
  (Cond.landsInDefault_setVm (args := #[]) (args' := args) (Vm.Alike.refl s.vm) (State.methodFound?_setVm (Vm.Alike.refl s.vm) _ _ _)).trans h
/-- a default method -/
abbrev xFD (R : Room) (s : State) (args : Array Value) (own Cn : String) (index : Nat) (x9 y : MethodName) (bytes : ByteArray) (maxL : Nat) (ret1 : Option FieldType) (ws1 : List Cond) (rm : Room) (mc ms n : Nat) : Prop :=
  (rm.cells = mc ∧ rm.slots = ms ∧ rm.frames + 1 ≤ R.frames ∧ 8 + (maxL + 11) + rm.locals ≤ R.locals ∧ (∀ w ∈ ws1, ∀ (a' : Array Value) (U : State), s.WarmedH U.vm → w.before a' U = true) ∧ Cond.code y bytes maxL ret1 ∈ ws1) ∧
  ((Cond.methodLink own index x9).before args s = true ∧ (Cond.declares x9).before args s = true ∧ (Cond.interfaceMethod x9.cls x9.cls x9.name x9.desc).before args s = true ∧ (Cond.landsInDefault Cn x9 y).before args s = true ∧ (Cond.instanceMethod y).before args s = true ∧ (Cond.publicMethod y).before args s = true ∧ (Cond.castable Cn x9.cls).before args s = true ∧ (Cond.initialized y.cls).before args s = true) ∧
  (x9.cls ≠ "java/lang/invoke/MethodHandle" ∧ x9.cls ≠ "java/lang/invoke/VarHandle") ∧ ∀ sig, parseMethodDescriptor x9.desc = some sig → n = sig.parameters.length
theorem x_cwFD (C : xC own cc L ret p s m args meth c A) (n : Nat) (hcode : Cond.code y bytes maxL ret1 ∈ lw_all) (hw : ws1 = ws_ y bytes maxL ret1) (hrc : rm.cells = mc) (hrs : rm.slots = ms) (hl : Cond.methodLink own index x9 ∈ lw_all) (hF : va_Fw Cn x9 y s) (hdf : va_Nw (.landsInDefault Cn x9 y) s) (hin : Cond.instanceMethod y ∈ lw_all) (hini : Cond.initialized y.cls ∈ lw_all)
    (hd : x9.cls ≠ "java/lang/invoke/MethodHandle" ∧ x9.cls ≠ "java/lang/invoke/VarHandle" ∧ (parseMethodDescriptor x9.desc).map (fun d => d.parameters.length) = some n) (hR : rm.frames + 1 ≤ R.frames ∧ 8 + (maxL + 11) + rm.locals ≤ R.locals) : xFD R s args own Cn index x9 y bytes maxL ret1 ws1 rm mc ms n := by
  subst hw
  have hts := C.2.2.2.2.2.2.1
  obtain ⟨f1, f2, f3, f4, f5⟩ := hF
  refine ⟨⟨hrc, hrs, hR.1, hR.2, pay_in hts (lw_meth hcode), List.mem_cons_self⟩, ⟨hts _ hl, va_Nw.use rfl f1, va_Nw.use rfl f2, x_dfl hdf, hts _ hin, va_Nw.use rfl f3, va_Nw.use rfl f5, hts _ hini⟩, ⟨hd.1, hd.2.1⟩, fun sig h => ?_⟩
  have h2 := hd.2.2
  rw [h] at h2
  exact (Option.some.inj h2).symm
theorem x_rFD (C : xC own cc L ret p s m args meth c A) (T : xT E D tys A s H locs ws) {ci : Nat} {q : vw_C} (hcq : vwCl[ci]? = some q) (hp : PreS s H (xPc E' D tys wc H.size (.ref b :: As)) (.ref b :: As)) (hM : Met l y ws1 rm (xPc E' D tys wc H.size (.ref b :: As)) Qc mc ms free) (cw : xFD R s args own q.1 index x9 y bytes maxL ret1 ws1 rm mc ms n)
    (hrc : ∃ cell : Cell, H[b]? = some cell ∧ cell.vm.isStatics = false ∧ s.vm.findClass q.1 = some cell.cls) (hlen : As.length = n) (hls : ls.size = L) (hW : 2 * (F0 m pc ls (As.reverse ++ .ref b :: rest)).monitorRoom + (rest.map fun v => v.category).sum ≤ 8) (hdg : decode cc pc = .ok (.invokeinterface index count, 5)) (hf : cells + mc ≤ R.cells ∧ slots + ms ≤ R.slots) :
    va_Run5 p l e R s m args below meth c H locs cells slots mc ms (F0 m pc ls (As.reverse ++ .ref b :: rest)) rest (Qc (Value.ref b :: As).toArray) free := by
  obtain ⟨cC, hat⟩ := x_cls T hcq
  obtain ⟨⟨hrc', hrs, hfr, hlo, hws, hcw⟩, ⟨k1, k2, k3, k4, k5, k6, k7, hini⟩, hx9, hlen9⟩ := cw
  have hK : Back l R p e below s args y 5 8 (PreOf R mc ms (xPc E' D tys wc H.size (.ref b :: As))) (PostOf Qc mc ms free) := back_of (bytes := bytes) (maxL := maxL) (ret := ret1) hM hp.1 hrc' hrs hfr hlo hws hcw (fun a' U hW => word_at hW (Or.inl (by first | rfl | simp [Cond.onTables, Cond.keeps, Cond.steady])) hini)
  obtain ⟨hx, hb, hml, ho, -⟩ := xFix C
  obtain ⟨cellB, hcB, hoB, hclB⟩ := hrc
  obtain ⟨hfc, kB, hkB, -⟩ := hat
  cases hfc.symm.trans hclB
  intro Tt hT X
  obtain ⟨v, vm₁, ⟨U', l2, c2, s2⟩, hW₁, X', ⟨g', mk, t, Lx, e1, e2, hq, h1, hL, h2, h3⟩, st⟩ := X.interfaceBackD hx ho k1 k2 k3 k4 k5 k6 k7 hx9 hK hclB hkB ⟨cellB, by rw [hT]; exact hcB, rfl, hoB⟩ (g := F0 m pc ls (As.reverse ++ .ref b :: rest)) rfl (hls.trans hml.symm) (Steps.refl _) (argsL := As) (rest := rest) (fun sig h => hlen.trans (hlen9 sig h)) rfl hW (by rw [hb]; exact hdg)
    (fun vm₁ hW₁ => ⟨hf.1, hf.2, hp.2 (Tt.setVm vm₁) hT hW₁⟩)
  dsimp only [Pt.U, Pt.locs, Pt.cells, Pt.slots] at X' e1 e2 h1 h2 h3 st
  subst h1; subst h2; subst h3
  exact ⟨v, (Tt.setVm vm₁).calling g' mk (Value.ref b :: As).toArray, t, U', Lx, hT, X', hL, e1, e2, hq, fun target h => st.trans h⟩
variable {S : Type} {w1 : S → va_W} {wq : S → Nat → va_W} {u : S} {a : Array Value} {st0 : List Value}
theorem x_kFi {post : Int32 → S → Prop} (C : xC own cc L ret p s m args meth c A) (T : xT E D tys A s H locs (X ++ pl)) (isC isR : List Nat) (hC : isC.map (fun i => X[i]?) = wc.map some) (hR : isR.map (fun i => X[i]?) = wr.map some) (hn : va_nd isR = true) (hdis : ∀ i ∈ isR, i ∉ isC) (hC9 : isC.map (fun i => (X ++ pl)[i]?) = wc.map some)
    (hr : va_Run5 p l e R s m args below meth c H locs cells slots mc ms (F0 m pc ls st0) rest (va_Qi post (xB D tys (va_A wc H.size) w1) (va_A wc H.size) a) (va_A wc H.size))
    (kk : ∀ (r : Int32) (u : S) (H1 : Heap) (locs1 : List Loc), post r u → xT E D tys A s H1 locs1 ((wr ++ w1 u) ++ pl) → W p l e R s m args below meth c H1 locs1 (cells + mc) (slots + ms) Q (F0 m (pc + 5) ls (.int r :: rest))) : W p l e R s m args below meth c H locs cells slots Q (F0 m pc ls st0) := by
  have hF := va_free T.2.2.1 T.2.2.2.1 C.2.2.2.2.2.2.2 isC hC9
  exact va_callFi hr T.2.2.2.1 (fun q _ h => hF q h) hF (fun r u t H1 locs1 ht hvm hq hB hz hk hS1 => kk r u H1 locs1 hq (x_backq C T isC isR hC hR hn hdis hC9 ht hvm hB hk hS1))
theorem x_kFv {post : S → Prop} (C : xC own cc L ret p s m args meth c A) (T : xT E D tys A s H locs (X ++ pl)) (isC isR : List Nat) (hC : isC.map (fun i => X[i]?) = wc.map some) (hR : isR.map (fun i => X[i]?) = wr.map some) (hn : va_nd isR = true) (hdis : ∀ i ∈ isR, i ∉ isC) (hC9 : isC.map (fun i => (X ++ pl)[i]?) = wc.map some)
    (hr : va_Run5 p l e R s m args below meth c H locs cells slots mc ms (F0 m pc ls st0) rest (va_Qv post (xB D tys (va_A wc H.size) w1) (va_A wc H.size) a) (va_A wc H.size))
    (kk : ∀ (u : S) (H1 : Heap) (locs1 : List Loc), post u → xT E D tys A s H1 locs1 ((wr ++ w1 u) ++ pl) → W p l e R s m args below meth c H1 locs1 (cells + mc) (slots + ms) Q (F0 m (pc + 5) ls rest)) : W p l e R s m args below meth c H locs cells slots Q (F0 m pc ls st0) := by
  have hF := va_free T.2.2.1 T.2.2.2.1 C.2.2.2.2.2.2.2 isC hC9
  exact va_callFv hr T.2.2.2.1 (fun q _ h => hF q h) hF (fun u t H1 locs1 ht hvm hq hB hz hk hS1 => kk u H1 locs1 hq (x_backq C T isC isR hC hR hn hdis hC9 ht hvm hB hk hS1))
theorem x_kFq {post : Option Nat → S → Prop} (C : xC own cc L ret p s m args meth c A) (T : xT E D tys A s H locs (X ++ pl)) (isC isR : List Nat) (hC : isC.map (fun i => X[i]?) = wc.map some) (hR : isR.map (fun i => X[i]?) = wr.map some) (hn : va_nd isR = true) (hdis : ∀ i ∈ isR, i ∉ isC) (hC9 : isC.map (fun i => (X ++ pl)[i]?) = wc.map some)
    (hr : va_Run5 p l e R s m args below meth c H locs cells slots mc ms (F0 m pc ls st0) rest (va_Qq post (xB D tys (va_A wc H.size) w1) (va_A wc H.size) a) (va_A wc H.size))
    (kk : ∀ (r : Option Nat) (u : S) (H1 : Heap) (locs1 : List Loc), post r u → xT E D tys A s H1 locs1 ((wr ++ w1 u) ++ pl) → W p l e R s m args below meth c H1 locs1 (cells + mc) (slots + ms) Q (F0 m (pc + 5) ls (va_rf r :: rest))) : W p l e R s m args below meth c H locs cells slots Q (F0 m pc ls st0) := by
  have hF := va_free T.2.2.1 T.2.2.2.1 C.2.2.2.2.2.2.2 isC hC9
  exact va_callFq hr T.2.2.2.1 (fun q _ h => hF q h) hF (fun r u t H1 locs1 ht hvm hq hB hz hk hS1 => kk r u H1 locs1 hq (x_backq C T isC isR hC hR hn hdis hC9 ht hvm hB hk hS1))
theorem x_kFr {post : S → Prop} (C : xC own cc L ret p s m args meth c A) (T : xT E D tys A s H locs (X ++ pl)) (isC isR : List Nat) (hC : isC.map (fun i => X[i]?) = wc.map some) (hR : isR.map (fun i => X[i]?) = wr.map some) (hn : va_nd isR = true) (hdis : ∀ i ∈ isR, i ∉ isC) (hC9 : isC.map (fun i => (X ++ pl)[i]?) = wc.map some)
    (hr : va_Run5 p l e R s m args below meth c H locs cells slots mc ms (F0 m pc ls st0) rest (va_Qr post (xBr D tys (va_A wc H.size) wq) (va_A wc H.size) a) (va_A wc H.size))
    (kk : ∀ (u : S) (ra : Nat) (H1 : Heap) (locs1 : List Loc), post u → xT E D tys A s H1 locs1 ((wr ++ wq u ra) ++ pl) → W p l e R s m args below meth c H1 locs1 (cells + mc) (slots + ms) Q (F0 m (pc + 5) ls (.ref ra :: rest))) : W p l e R s m args below meth c H locs cells slots Q (F0 m pc ls st0) := by
  have hF := va_free T.2.2.1 T.2.2.2.1 C.2.2.2.2.2.2.2 isC hC9
  exact va_callFr hr T.2.2.2.1 (fun q _ h => hF q h) hF (fun u ra t H1 locs1 ht hvm hq hB hz hk hS1 => kk u ra H1 locs1 hq (x_backq C T isC isR hC hR hn hdis hC9 ht hvm hB hk hS1))
theorem x_face (hE : xStable κ E) (T : xT E D tys A s H locs ws) {C : String} {x y : MethodName} (hx : x.cls ≠ "java/lang/invoke/MethodHandle" ∧ x.cls ≠ "java/lang/invoke/VarHandle") (h1 : Cond.declares x ∈ lw_tbl) (h2 : Cond.interfaceMethod x.cls x.cls x.name x.desc ∈ lw_tbl) (h3 : Cond.publicMethod y ∈ lw_tbl) (h4 : Cond.unhidden C x.name x.desc ∈ lw_tbl) (h5 : Cond.castable C x.cls ∈ lw_tbl) : va_Fw C x y s := (hE.2 _ _ _ T.2.2.2.2).2.2.2.2.2.2.2.2.1 _ _ _ hx h1 h2 h3 h4 h5
theorem x_putL (C : xC own cc L ret p s m args meth c A) (T : xT E D tys A s H locs ws) {Cn ref : String} {Tn : u_T} {N ci index a : Nat} {fs : List Value} (ty0 : Nat → FieldType) (hty : ∀ k, k < N → parseFieldDescriptor (Tn k).2.2.1 = some (ty0 k)) (hnm : ∀ a, a < N → ∀ b, b < N → a ≠ b → (Tn a).2.1 ≠ (Tn b).2.1) (q0 : Nat) (he : ws[q0]? = some (a, .inr (ci, fs))) (hc : vwCl[ci]? = some (Cn, Tn, N)) (k : Nat) (hk : k < N) (hin : ∀ w ∈ u_ws Cn Tn N, w ∈ lw_all) (hlink : (Cond.fieldLink own index ref (Tn k).2.1 (Tn k).2.2.1) ∈ lw_all) (hsame : Cond.sameField ref (Tn k).1 (Tn k).2.1 (Tn k).2.2.1 ∈ lw_all) (hfin : (Tn k).2.2.2 = false) {ty : FieldType} {v : Value} (hd : parseFieldDescriptor (Tn k).2.2.1 = some ty) (hn : narrow ty v = v) (hfit : fits ty v = true) (hl : k < fs.length) (hdg : decode cc pc = .ok (.putfield index, 3))
    (kk : ∀ (H1 : Heap) (locs1 : List Loc), xT E D tys A s H1 locs1 (ws.set q0 (a, .inr (ci, fs.set k v))) → W p l e R s m args below meth c H1 locs1 cells slots Q (F0 m (pc + 3) ls rest)) : W p l e R s m args below meth c H locs cells slots Q (F0 m pc ls (v :: .ref a :: rest)) := by
  obtain ⟨hx, hb, hr, hlk, hml, hown, hts, hA⟩ := C
  obtain ⟨hK, hP, hD, hS, hE⟩ := T
  exact va_put hx hb hts hin ty0 hty hnm hown hK hP hD hS q0 he hc k hk (hts _ hlink) (u_same (hts _ hsame)) hfin hd hn hfit hl hdg (fun H1 locs1 hP hD hS => kk H1 locs1 ⟨hK, hP, hD, hS, hE⟩)
theorem x_deft (hE : xStable κ E) (T : xT E D tys A s H locs ws) {C : String} {x y : MethodName} (h : (C, x, y) ∈ xDef) : va_Nw (.landsInDefault C x y) s := (hE.2 _ _ _ T.2.2.2.2).2.2.2.2.2.2.2.2.2.2.1 (C, x, y) h
end XF
theorem lw_F {own : String} {idx : Nat} {C : String} {x y : MethodName} {b : ByteArray} {L : Nat} {r : Option FieldType} (h1 : Cond.methodLink own idx x ∈ lw_all) (h2 : Cond.selects C x y ∈ lw_all) (h3 : Cond.instanceMethod y ∈ lw_all) (h4 : Cond.initialized y.cls ∈ lw_all) (h5 : Cond.code y b L r ∈ lw_all) : GoodIn lw_all (va_wsF own idx C x y (ws_ y b L r)) := by
  refine lw_app ?_ (lw_meth h5)
  intro w hw
  simp only [List.mem_cons, List.not_mem_nil, or_false] at hw
  rcases hw with e | e | e | e
  · rw [e]; exact h1
  · rw [e]; exact h2
  · rw [e]; exact h3
  · rw [e]; exact h4
section XN
variable {p : Program} {l : Launch} {e : Env} {R : Room} {s : State} {m : MethodId} {args : Array Value} {below : List Frame} {meth : Method} {c : Code} {H : Heap} {locs : List Loc} {cells slots : Nat} {Q : State → Prop}
variable {κ : xK} {E E' : xEnv} {D : va_G} {tys : List (ClassId × FieldType)} {A : Nat → Prop} {ws X pl wc wr : va_W} {own host : String} {cc : ByteArray} {L : Nat} {ret : Option FieldType} {pc : Nat} {ls : Array Slot} {rest : List Value}
variable {y : MethodName} {bytes : ByteArray} {maxL n index b mc ms : Nat} {ret1 : Option FieldType} {ws1 ws' : List Cond} {rm : Room} {As : List Value} {Qc : Array Value → State → Outcome → State → Prop} {free : Addr → Prop} {Cn : String}
theorem x_nest (hE : xStable κ E) (T : xT E D tys A s H locs ws) {a : String} {i : Nat} {x : MethodName} {h : String} (hm : Cond.methodLinkNest a i x h ∈ lw_tbl) : va_Nw (.methodLinkNest a i x h) s := (hE.2 _ _ _ T.2.2.2.2).2.2.2.2.2.1 _ _ _ _ hm
theorem x_rSN (C : xC own cc L ret p s m args meth c A) (hp : PreS s H (xPc E' D tys wc H.size As) As) (hM : Met l y ws1 rm (xPc E' D tys wc H.size As) Qc mc ms free) (cw : va_CN R s args own index y host bytes maxL ret1 ws1 rm mc ms n ∧ (Cond.static y).before args s = true ∧ True)
    (hlen : As.length = n) (hls : ls.size = L) (hW : 2 * (F0 m pc ls (As.reverse ++ rest)).monitorRoom + (rest.map fun v => v.category).sum ≤ 8) (hdg : decode cc pc = .ok (.invokestatic index, 3)) (hf : cells + mc ≤ R.cells ∧ slots + ms ≤ R.slots) :
    va_Run p l e R s m args below meth c H locs cells slots mc ms (F0 m pc ls (As.reverse ++ rest)) rest (Qc As.toArray) free :=
  va_runSN (xFix C) hM cw hp rfl hlen hls rfl hW hdg hf
theorem x_rVN (C : xC own cc L ret p s m args meth c A) (hp : PreS s H (xPc E' D tys wc H.size (.ref b :: As)) (.ref b :: As)) (hM : Met l y ws1 rm (xPc E' D tys wc H.size (.ref b :: As)) Qc mc ms free) (cw : va_CN R s args own index y host bytes maxL ret1 ws1 rm mc ms n ∧ (Cond.instanceMethod y).before args s = true ∧ (Cond.selects Cn y y).before args s = true)
    (hrc : ∃ cell : Cell, H[b]? = some cell ∧ cell.vm.isStatics = false ∧ s.vm.findClass Cn = some cell.cls) (hlen : As.length = n) (hls : ls.size = L) (hW : 2 * (F0 m pc ls (As.reverse ++ .ref b :: rest)).monitorRoom + (rest.map fun v => v.category).sum ≤ 8) (hdg : decode cc pc = .ok (.invokevirtual index, 3)) (hf : cells + mc ≤ R.cells ∧ slots + ms ≤ R.slots) :
    va_Run p l e R s m args below meth c H locs cells slots mc ms (F0 m pc ls (As.reverse ++ .ref b :: rest)) rest (Qc (Value.ref b :: As).toArray) free :=
  va_runVN (xFix C) hM cw ⟨hp.1, hrc, hp.2⟩ rfl hlen hls rfl hW hdg hf
theorem x_arrC (T : xT E D tys A s H locs ws) {t0 : Nat} {cA : ClassId} {ty : FieldType} (ht : tys[t0]? = some (cA, ty)) (h9 : ∀ Cx, ty ≠ .object Cx) {nm : String} (hnm : "[" ++ ty.toString = nm) : s.vm.findClass nm = some cA := by
  have h := (T.1.2 t0 _ ht).2
  cases ty with
  | object Cx => exact absurd rfl (h9 Cx)
  | _ => rw [← hnm]; exact h
/-- an array's clone -/
theorem x_clone (hE : xStable κ E) (C : xC own cc L ret p s m args meth c A) (T : xT E D tys A s H locs ws) {ad : String} (hlink : Cond.methodLink own index ⟨ad, "clone", "()Ljava/lang/Object;"⟩ ∈ lw_all) (hsame : Cond.sameMethod ad "java/lang/Object" "clone" "()Ljava/lang/Object;" ∈ lw_all) (hnat : Cond.native ⟨"java/lang/Object", "clone", "()Ljava/lang/Object;"⟩ ∈ lw_all) (hinst : Cond.instanceMethod ⟨"java/lang/Object", "clone", "()Ljava/lang/Object;"⟩ ∈ lw_all)
    (hsel : Cond.selects ad ⟨ad, "clone", "()Ljava/lang/Object;"⟩ ⟨"java/lang/Object", "clone", "()Ljava/lang/Object;"⟩ ∈ lw_all) (hcl : Cond.castable ad "java/lang/Cloneable" ∈ lw_tbl) (q0 t0 : Nat) {a nn : Nat} {cA : ClassId} {f : Nat → Int32} {ty : FieldType} (ha : ws[q0]? = some (a, xI cA nn f)) (ht : tys[t0]? = some (cA, ty)) (h9 : ∀ Cx, ty ≠ .object Cx) (hnm : "[" ++ ty.toString = ad) (hfit : ∀ i, i < nn → fits ty (.int (f i)) = true)
    (hframes : 1 ≤ R.frames) (hlocals : (rest.map fun v => v.category).sum + 14 ≤ R.locals) (hcells : cells + 1 ≤ R.cells) (hslots : slots + nn ≤ R.slots) (hls : ls.size = L) (hdg : decode cc pc = .ok (.invokevirtual index, 3))
    (kk : ∀ (q : Nat) (H1 : Heap), xT E D tys A s H1 locs (ws ++ [(q, xI cA nn f)]) → W p l e R s m args below meth c H1 locs (cells + 1) (slots + nn) Q (F0 m (pc + 3) ls (.ref q :: rest))) : W p l e R s m args below meth c H locs cells slots Q (F0 m pc ls (.ref a :: rest)) := by
  have hn2 := x_arrC T ht h9 hnm
  have hc2 := x_cast hE T hcl
  obtain ⟨hx, hb, hr, hlk, hml, hown, hts, hA⟩ := C
  obtain ⟨hK, hP, hD, hS, hE0⟩ := T
  refine va_clone hx hb (hml.trans hls.symm) hown (hts _ hlink) (hts _ hsame) (hts _ hnat) (hts _ hinst) (hts _ hsel) hc2 hK hP hD hS hA q0 t0 (x := (nn, .inl f)) ha ht hn2 (fun i v hv => ?_) hframes hlocals hcells hslots hdg (fun q H1 hK1 hP hD hS => kk q H1 ⟨hK, hP, hD, hS, hE0⟩)
  have hlt : i < nn := by
    have := (Array.getElem?_eq_some_iff.mp hv).1
    rwa [vp_cell_i, arrV_size] at this
  rw [vp_cell_i, arrV_read _ _ hlt] at hv
  cases hv
  exact hfit i hlt
theorem x_castA (C : xC own cc L ret p s m args meth c A) (T : xT E D tys A s H locs ws) {nm : String} (hlink : Cond.classLink own index nm ∈ lw_all) (q0 t0 : Nat) {a : Nat} {cA : ClassId} {x : vp_A} {ty : FieldType} (ha : ws[q0]? = some (a, .inl (cA, x))) (ht : tys[t0]? = some (cA, ty)) (h9 : ∀ Cx, ty ≠ .object Cx) (hnm : "[" ++ ty.toString = nm) (hdg : decode cc pc = .ok (.checkcast index, 3))
    (k : W p l e R s m args below meth c H locs cells slots Q (F0 m (pc + 3) ls (.ref a :: rest))) : W p l e R s m args below meth c H locs cells slots Q (F0 m pc ls (.ref a :: rest)) := by
  have hn2 := x_arrC T ht h9 hnm
  exact va_castA C.1 C.2.1 C.2.2.2.2.2.1 (C.2.2.2.2.2.2.1 _ hlink) T.2.1 q0 ha hn2 hdg k
end XN
/-- echoes, by their addresses -/
abbrev xPool (LP : List Nat) (pw ps : Nat → Int32) : va_W := va_pl LP (fun y => .inr (6, [.int (pw y), .int (ps y)]))
/-- an echo or none -/
def xOpt (u : Option (Nat × Int32 × Int32)) : va_W := match u with
  | none => []
  | some (q, w, z) => [(q, .inr (6, [.int w, .int z]))]
section XP
variable {p : Program} {l : Launch} {e : Env} {R : Room} {s : State} {m : MethodId} {args : Array Value} {below : List Frame} {meth : Method} {c : Code} {H : Heap} {locs : List Loc} {cells slots : Nat} {Q : State → Prop}
variable {κ : xK} {E E' : xEnv} {D : va_G} {tys : List (ClassId × FieldType)} {A : Nat → Prop} {ws X X' pl wc wr : va_W} {own host : String} {cc : ByteArray} {L : Nat} {ret : Option FieldType} {pc : Nat} {ls : Array Slot} {rest : List Value}
theorem xT.part (T : xT E D tys A s H locs (X ++ pl)) (is : List Nat) (hn : va_nd is = true) (hs : is.map (fun i => X[i]?) = X'.map some) : xT E D tys A s H locs (X' ++ pl) :=
  ⟨T.1, T.2.1.part is hs, T.2.2.1.part is hn hs, T.2.2.2⟩
/-- the same things in any order, or fewer of them -/
theorem xT.by (T : xT E D tys A s H locs ws) {ws' : va_W} (hs : List.Sublist ws' ws) : xT E D tys A s H locs ws' := by
  obtain ⟨hK, hP, hD, hS, hE⟩ := T
  have hP' : ∀ q ∈ ws, va_at D vwCl q H := fun q hq => by
    obtain ⟨k, hk⟩ := List.mem_iff_getElem?.mp hq
    exact hP k q hk
  refine ⟨hK, fun k q hk => hP' q (hs.subset (List.mem_of_getElem? hk)), ?_, hS, hE⟩
  have hN : ws.Pairwise (fun a b => a.1 ≠ b.1) := by
    rw [List.pairwise_iff_getElem]
    intro i j hi hj hij h
    have := hD.1 i j ws[i] ws[j] (List.getElem?_eq_getElem hi) (List.getElem?_eq_getElem hj) h
    omega
  have hN' := hN.sublist hs
  rw [List.pairwise_iff_getElem] at hN'
  refine ⟨fun i j p q hi hj h => ?_, fun k q hk => ?_⟩
  · obtain ⟨hi', ei⟩ := List.getElem?_eq_some_iff.mp hi
    obtain ⟨hj', ej⟩ := List.getElem?_eq_some_iff.mp hj
    rcases Nat.lt_trichotomy i j with h1 | h1 | h1
    · exact absurd (by rw [ei, ej]; exact h) (hN' i j hi' hj' h1)
    · exact h1
    · exact absurd (by rw [ei, ej]; exact h.symm) (hN' j i hj' hi' h1)
  · obtain ⟨k', hk'⟩ := List.mem_iff_getElem?.mp (hs.subset (List.mem_of_getElem? hk))
    exact hD.2 k' q hk'
theorem xT.perm (T : xT E D tys A s H locs ws) {ws' : va_W} (hs : ws.Perm ws') : xT E D tys A s H locs ws' := by
  obtain ⟨hK, hP, hD, hS, hE⟩ := T
  have hP' : ∀ q ∈ ws, va_at D vwCl q H := fun q hq => by
    obtain ⟨k, hk⟩ := List.mem_iff_getElem?.mp hq
    exact hP k q hk
  refine ⟨hK, fun k q hk => hP' q (hs.symm.subset (List.mem_of_getElem? hk)), ?_, hS, hE⟩
  have hN : ws.Pairwise (fun a b => a.1 ≠ b.1) := by
    rw [List.pairwise_iff_getElem]
    intro i j hi hj hij h
    have := hD.1 i j ws[i] ws[j] (List.getElem?_eq_getElem hi) (List.getElem?_eq_getElem hj) h
    omega
  have hN' : ws'.Pairwise (fun a b => a.1 ≠ b.1) := hs.pairwise hN (fun h => h.symm)
  rw [List.pairwise_iff_getElem] at hN'
  refine ⟨fun i j p q hi hj h => ?_, fun k q hk => ?_⟩
  · obtain ⟨hi', ei⟩ := List.getElem?_eq_some_iff.mp hi
    obtain ⟨hj', ej⟩ := List.getElem?_eq_some_iff.mp hj
    rcases Nat.lt_trichotomy i j with h1 | h1 | h1
    · exact absurd (by rw [ei, ej]; exact h) (hN' i j hi' hj' h1)
    · exact h1
    · exact absurd (by rw [ei, ej]; exact h.symm) (hN' j i hj' hi' h1)
  · obtain ⟨k', hk'⟩ := List.mem_iff_getElem?.mp (hs.symm.subset (List.mem_of_getElem? hk))
    exact hD.2 k' q hk'
/-- a new echo goes into the pool -/
theorem x_push {LP : List Nat} {pw ps : Nat → Int32} {q : Nat} {w z : Int32} (T : xT E D tys A s H locs ((X ++ [(q, .inr (6, [.int w, .int z]))]) ++ xPool LP pw ps)) : q ∉ LP ∧ xT E D tys A s H locs (X ++ xPool (LP ++ [q]) (va_up pw q w) (va_up ps q z)) := by
  have hq : q ∉ LP := by
    intro h
    obtain ⟨k, hk⟩ := va_pl_get (X := X ++ [(q, .inr (6, [.int w, .int z]))]) (f := fun y => .inr (6, [.int (pw y), .int (ps y)])) h
    have h1 : ((X ++ [(q, .inr (6, [.int w, .int z]))]) ++ xPool LP pw ps)[X.length]? = some (q, .inr (6, [.int w, .int z])) := by
      rw [List.append_assoc, List.getElem?_append_right (Nat.le_refl _)]
      simp
    have hk9 : X.length + 1 ≤ k := by
      rcases Nat.lt_or_ge k (X.length + 1) with h9 | h9
      · exfalso
        obtain ⟨n, hn, e⟩ := List.getElem_of_mem h
        have h2 : ((X ++ [(q, .inr (6, [.int w, .int z]))]) ++ xPool LP pw ps)[X.length + 1 + n]? = some (q, .inr (6, [.int (pw q), .int (ps q)])) := by
          rw [List.getElem?_append_right (by simp), show X.length + 1 + n - (X ++ [(q, (.inr (6, [.int w, .int z]) : va_E))]).length = n by simp]
          simp [xPool, va_pl, List.getElem?_eq_getElem hn, e]
        have := T.2.2.1.1 _ _ _ _ h1 h2 rfl
        omega
      · exact h9
    have := T.2.2.1.1 _ _ _ _ h1 hk rfl
    omega
  refine ⟨hq, ?_⟩
  have e1 : va_pl LP (fun y => (.inr (6, [.int (pw y), .int (ps y)]) : va_E)) ++ [(q, .inr (6, [.int w, .int z]))] = xPool (LP ++ [q]) (va_up pw q w) (va_up ps q z) := by
    rw [va_pl_push hq]
    refine va_pl_congr (fun y => ?_)
    by_cases hy : y = q
    · simp [va_up, hy]
    · simp [va_up, hy]
  refine T.perm ?_
  rw [← e1, List.append_assoc]
  exact List.Perm.append_left X List.perm_append_comm
theorem x_poolAt {LP : List Nat} {pw ps : Nat → Int32} {y : Nat} (T : xT E D tys A s H locs (X ++ xPool LP pw ps)) (hy : y ∈ LP) : va_at D vwCl (y, .inr (6, [.int (pw y), .int (ps y)])) H := by
  obtain ⟨k, hk⟩ := va_pl_get (X := X) (f := fun y => .inr (6, [.int (pw y), .int (ps y)])) hy
  exact T.2.1 k _ hk
theorem x_envP {LP : List Nat} {pw ps : Nat → Int32} {y : Nat} (T : xT E D tys A s H locs (X ++ xPool LP pw ps)) (hy : y ∈ LP) (isC : List Nat) (hC : isC.map (fun i => (X ++ xPool LP pw ps)[i]?) = wc.map some) (nX : Nat) (hX : X.length = nX) (hl : ∀ i ∈ isC, i < nX) : ∀ U : State, U.heap = H → s.WarmedH U.vm → xAt D (y, .inr (6, [.int (pw y), .int (ps y)])) (va_A wc H.size) U H := by
  obtain ⟨n, hn, e1⟩ := List.getElem_of_mem hy
  have h2 : (X ++ xPool LP pw ps)[X.length + n]? = some (y, .inr (6, [.int (pw y), .int (ps y)])) := by
    rw [List.getElem?_append_right (by simp), show X.length + n - X.length = n by omega]
    simp [xPool, va_pl, List.getElem?_eq_getElem hn, e1]
  exact x_envA T isC hC _ h2 (fun h => by have := hl _ h; omega)
/-- one echo of the pool, the others forgotten -/
theorem x_pick {LP : List Nat} {pw ps : Nat → Int32} {y : Nat} (T : xT E D tys A s H locs (X ++ xPool LP pw ps)) (hy : y ∈ LP) : xT E D tys A s H locs (X ++ [(y, .inr (6, [.int (pw y), .int (ps y)]))]) := by
  refine T.by (List.Sublist.append_left ?_ X)
  rw [List.singleton_sublist]
  exact List.mem_map.mpr ⟨y, hy, rfl⟩
theorem xT.nopool {LP : List Nat} {pw ps : Nat → Int32} (T : xT E D tys A s H locs (X ++ xPool LP pw ps)) : xT E D tys A s H locs X := T.by (List.sublist_append_left X _)
theorem xT.swap {q : Nat × va_E} (T : xT E D tys A s H locs ((X ++ pl) ++ [q])) : xT E D tys A s H locs ((X ++ [q]) ++ pl) := by
  refine T.perm ?_
  rw [List.append_assoc, List.append_assoc]
  exact List.Perm.append_left X List.perm_append_comm
/-- one of a family of borrowed things -/
theorem x_famAt {f : Nat → Option Nat} {g : Nat → va_E} {j y : Nat} {U : State} (h : ∃ y' : Nat, f j = some y' ∧ xAt D (y', g j) A U H) (hf : some y = f j) : xAt D (y, g j) A U H := by
  obtain ⟨y', h1, h2⟩ := h
  cases h1.symm.trans hf.symm
  exact h2
theorem x_fam_moves (nb : Nat) (f : Nat → Option Nat) (g : Nat → va_E) : xMoves (fun A U H => ∀ j : Nat, j < nb → ∃ y : Nat, f j = some y ∧ xAt D (y, g j) A U H) := by
  intro A B u U H H1 h hW hAB hk j hj
  obtain ⟨y, h1, h2⟩ := h j hj
  exact ⟨y, h1, xAt_moves D _ A B u U H H1 h2 hW hAB hk⟩
end XP
