/-! BASE 3: null or a reference, constant texts, a method's own thing handed back -/
set_option maxRecDepth 100000
section XO
variable {p : Program} {l : Launch} {e : Env} {R : Room} {s : State} {m : MethodId} {args : Array Value} {below : List Frame} {meth : Method} {c : Code} {H : Heap} {locs : List Loc} {cells slots : Nat} {Q : State → Prop}
variable {κ : xK} {E E' : xEnv} {D : va_G} {tys : List (ClassId × FieldType)} {A : Nat → Prop} {ws X pl wc wr : va_W} {own : String} {cc : ByteArray} {L : Nat} {ret : Option FieldType} {pc : Nat} {ls : Array Slot} {rest : List Value}
theorem x_topq {r : Option Nat} (k : ∀ o : Option Nat, o = r → W p l e R s m args below meth c H locs cells slots Q (F0 m pc ls (va_rf o :: rest))) : W p l e R s m args below meth c H locs cells slots Q (F0 m pc ls (va_rf r :: rest)) := k r rfl
theorem x_ifnull (hx : p.tables.exec = Jvm.exec) (hb : c.code = cc) {r : Option Nat} {off : Int} {tgt : Nat} (hdg : decode cc pc = .ok (.ifnull off, 3)) (ht : (pc : Int) + off = (tgt : Int))
    (kn : r = none → W p l e R s m args below meth c H locs cells slots Q (F0 m tgt ls rest)) (ks : ∀ y : Nat, r = some y → W p l e R s m args below meth c H locs cells slots Q (F0 m (pc + 3) ls rest)) : W p l e R s m args below meth c H locs cells slots Q (F0 m pc ls (va_rf r :: rest)) := by
  cases r with
  | none => exact lv_ifnullN hx hb hdg ht (kn rfl)
  | some y => exact lv_ifnull hx hb hdg (ks y rfl)
theorem x_ifnonnull (hx : p.tables.exec = Jvm.exec) (hb : c.code = cc) {r : Option Nat} {off : Int} {tgt : Nat} (hdg : decode cc pc = .ok (.ifnonnull off, 3)) (ht : (pc : Int) + off = (tgt : Int))
    (kn : r = none → W p l e R s m args below meth c H locs cells slots Q (F0 m (pc + 3) ls rest)) (ks : ∀ y : Nat, r = some y → W p l e R s m args below meth c H locs cells slots Q (F0 m tgt ls rest)) : W p l e R s m args below meth c H locs cells slots Q (F0 m pc ls (va_rf r :: rest)) := by
  cases r with
  | none => exact lv_ifnonnullN hx hb hdg (kn rfl)
  | some y => exact lv_ifnonnull hx hb hdg ht (ks y rfl)
theorem x_aload_n (hx : p.tables.exec = Jvm.exec) (hb : c.code = cc) {r : Option Nat} {k : Fin 4} {i : Nat} (hdg : decode cc pc = .ok (.aload_n k, 1)) (hi : (k : Nat) = i) (hl : ls[i]? = some (.val (va_rf r)))
    (kk : W p l e R s m args below meth c H locs cells slots Q (F0 m (pc + 1) ls (va_rf r :: rest))) : W p l e R s m args below meth c H locs cells slots Q (F0 m pc ls rest) := by
  cases r with
  | none => exact lv_aload_nN hx hb hdg hi hl kk
  | some y => exact lv_aload_n hx hb hdg hi hl kk
theorem x_aload (hx : p.tables.exec = Jvm.exec) (hb : c.code = cc) {r : Option Nat} {i : Nat} (hdg : decode cc pc = .ok (.aload i, 2)) (hl : ls[i]? = some (.val (va_rf r)))
    (kk : W p l e R s m args below meth c H locs cells slots Q (F0 m (pc + 2) ls (va_rf r :: rest))) : W p l e R s m args below meth c H locs cells slots Q (F0 m pc ls rest) := by
  cases r with
  | none => exact lv_aloadN hx hb hdg hl kk
  | some y => exact lv_aload hx hb hdg hl kk
theorem x_astore_n (hx : p.tables.exec = Jvm.exec) (hb : c.code = cc) {r : Option Nat} {k : Fin 4} {i nL : Nat} {lv lv' : List (Nat × Value)} (hdg : decode cc pc = .ok (.astore_n k, 1)) (hi : (k : Nat) = i) (h : lv_has ls nL lv) (hn : i < nL) (hl : (i, va_rf r) :: lv.filter (fun q => !(q.1 == i) && !(q.1 + 1 == i && q.2.category == 2)) = lv')
    (kk : ∀ ls' : Array Slot, lv_has ls' nL lv' → W p l e R s m args below meth c H locs cells slots Q (F0 m (pc + 1) ls' rest)) : W p l e R s m args below meth c H locs cells slots Q (F0 m pc ls (va_rf r :: rest)) := by
  cases r with
  | none => exact lv_astore_nN hx hb hdg hi h hn hl kk
  | some y => exact lv_astore_n hx hb hdg hi h hn hl kk
theorem x_astore (hx : p.tables.exec = Jvm.exec) (hb : c.code = cc) {r : Option Nat} {i nL : Nat} {lv lv' : List (Nat × Value)} (hdg : decode cc pc = .ok (.astore i, 2)) (h : lv_has ls nL lv) (hn : i < nL) (hl : (i, va_rf r) :: lv.filter (fun q => !(q.1 == i) && !(q.1 + 1 == i && q.2.category == 2)) = lv')
    (kk : ∀ ls' : Array Slot, lv_has ls' nL lv' → W p l e R s m args below meth c H locs cells slots Q (F0 m (pc + 2) ls' rest)) : W p l e R s m args below meth c H locs cells slots Q (F0 m pc ls (va_rf r :: rest)) := by
  cases r with
  | none => exact lv_astoreN hx hb hdg h hn hl kk
  | some y => exact lv_astore hx hb hdg h hn hl kk
theorem x_narq {n : String} (r : Option Nat) : narrow (.object n) (va_rf r) = va_rf r := by cases r <;> rfl
theorem x_fitq {n : String} (r : Option Nat) : fits (.object n) (va_rf r) = true := by cases r <;> rfl
theorem x_fitb (b : Bool) : fits .boolean (.int (bI b)) = true := by cases b <;> rfl
theorem x_ialdE (C : xC own cc L ret p s m args meth c A) (T : xT E D tys A s H locs ws) (t0 : Nat) {a : Nat} {cA : ClassId} {n : Nat} {f : Nat → Int32} (ha : va_at D vwCl (a, xI cA n f) H) (ht : tys[t0]? = some (cA, .int)) {i : Int32} (hin : vp_in i n) {j : Nat} (hj : i.toNatClampNeg = j) (hdg : decode cc pc = .ok (.iaload, 1))
    (kk : W p l e R s m args below meth c H locs cells slots Q (F0 m (pc + 1) ls (.int (f j) :: rest))) : W p l e R s m args below meth c H locs cells slots Q (F0 m pc ls (.int i :: .ref a :: rest)) := by
  subst hj
  exact va_iald C.1 C.2.1 T.1 (x_nowP ha) 0 t0 rfl ht hin hdg kk
theorem x_zaldE (C : xC own cc L ret p s m args meth c A) (T : xT E D tys A s H locs ws) (t0 : Nat) {a : Nat} {cA : ClassId} {n : Nat} {f : Nat → Int32} (ha : va_at D vwCl (a, xI cA n f) H) (ht : tys[t0]? = some (cA, .boolean)) {i : Int32} (hin : vp_in i n) {j : Nat} (hj : i.toNatClampNeg = j) (hdg : decode cc pc = .ok (.baload, 1))
    (kk : W p l e R s m args below meth c H locs cells slots Q (F0 m (pc + 1) ls (.int (f j) :: rest))) : W p l e R s m args below meth c H locs cells slots Q (F0 m pc ls (.int i :: .ref a :: rest)) := by
  subst hj
  exact va_zald C.1 C.2.1 T.1 (x_nowP ha) 0 t0 rfl ht hin hdg kk
theorem x_anyS (T : xT E D tys A s H locs ws) {x ci : Nat} {fs : List Value} {r : vw_C} (ha : va_at D vwCl (x, .inr (ci, fs)) H) (hc : vwCl[ci]? = some r) : va_Any r.1 s H x := by
  refine va_rAny T.1 (x_nowP ha) (q0 := 0) rfl hc (fun comp c0 h1 h2 => ?_)
  cases h1.symm.trans h2
  exact va_asg _ _
theorem x_cast (hE : xStable κ E) (T : xT E D tys A s H locs ws) {C1 C2 : String} (h : Cond.castable C1 C2 ∈ lw_tbl) : va_Nw (.castable C1 C2) s := (hE.2 _ _ _ T.2.2.2.2).2.2.2.2.2.2.1 _ _ h
theorem x_str (hE : xStable κ E) (T : xT E D tys A s H locs ws) {own tx : String} {k i : Nat} (h : (own, k, tx, i) ∈ sRefs) : vk_R own k tx (κ.1 i) s := (hE.2 _ _ _ T.2.2.2.2).2.1 (own, k, tx, i) h
theorem x_startI {y : MethodName} {rm : Room} {sz : Nat} {av : List Value} {QcA : (Nat → Prop) → Array Value → State → Outcome → State → Prop} {mc ms : Nat} (hE : xStable κ E) (hy : plainName y.cls = true) (hL : (lg_sl av).length ≤ L)
    (k : ∀ (p : Program) (e : Env) (s : State) (m : MethodId) (below : List Frame) (meth : Method) (c : Code) (A : Nat → Prop), xC y.cls cc L ret p s m av.toArray meth c A → ∀ (H : Heap) (locs : List Loc), H.size = sz → xT E D tys A s H locs ws → ∀ ls : Array Slot, lv_has ls L (lv_args 0 av) → meth.name = y.name →
      W p l e (headSpec (ws_ y cc L ret) rm).room s m av.toArray below meth c H locs 0 0 (MQ below (QcA A) av.toArray s mc ms A) (F0 m 0 ls [])) :
    Met l y (ws_ y cc L ret) rm (xPc E D tys ws sz av) (QcA (va_A ws sz)) mc ms (va_A ws sz) := by
  refine Met.ofW (cc := cc) (maxL := L) (ret := ret) hy rfl ?_
  intro p e s m args below meth c s₁ B hml hv
  obtain ⟨rfl, hsz, hP, hK, hD0, hE0⟩ := hv
  have hts := atoms_spec (ws := ws_ y cc L ret) B.pre
  have hts : ∀ w ∈ lw_all, w.before _ s = true := fun w h => hts w (List.mem_cons_of_mem _ h)
  have hown : s.vm.findClass y.cls = some m.cls := findClass_of_methodNamed B.named
  have hl := lv_entry av (n := L) hL
  rw [lg_entry_eq]
  subst hsz
  exact k p e s m below meth c _ ⟨B.exec, B.bytes, B.returns, B.notSynchronized, hml, hown, hts, fun q h => Or.inr h⟩ _ _ rfl ⟨hK, hP, hD0.self, va_S.rf, hE0⟩ _ hl (name_of_methodNamed B.named B.method).1
/-- a thing that the caller knows is handed back -/
abbrev xBk {S : Type} (D : va_G) (tys : List (ClassId × FieldType)) (A : Nat → Prop) (a0 : Nat) (w1 : S → Nat → va_W) (u : S) (a : Nat) (t : State) : Prop := a = a0 ∧ va_P D vwCl (w1 u a) t.heap ∧ va_K D vwCl tys t ∧ va_D A (w1 u a)
variable {S : Type} {w1 : S → va_W} {wq : S → Nat → va_W} {u : S} {mc ms : Nat} {a : Array Value} {st0 : List Value}
theorem x_kk {post : S → Prop} {a0 : Nat} (C : xC own cc L ret p s m args meth c A) (T : xT E D tys A s H locs (X ++ pl)) (isC isR : List Nat) (hC : isC.map (fun i => X[i]?) = wc.map some) (hR : isR.map (fun i => X[i]?) = wr.map some) (hn : va_nd isR = true) (hdis : ∀ i ∈ isR, i ∉ isC) (hC9 : isC.map (fun i => (X ++ pl)[i]?) = wc.map some)
    (hr : va_Run p l e R s m args below meth c H locs cells slots mc ms (F0 m pc ls st0) rest (va_Qr post (xBk D tys (va_A wc H.size) a0 wq) (va_A wc H.size) a) (va_A wc H.size))
    (kk : ∀ (u : S) (H1 : Heap) (locs1 : List Loc), post u → xT E D tys A s H1 locs1 ((wr ++ wq u a0) ++ pl) → W p l e R s m args below meth c H1 locs1 (cells + mc) (slots + ms) Q (F0 m (pc + 3) ls (.ref a0 :: rest))) : W p l e R s m args below meth c H locs cells slots Q (F0 m pc ls st0) := by
  have hF := va_free T.2.2.1 T.2.2.2.1 C.2.2.2.2.2.2.2 isC hC9
  refine va_callr hr T.2.2.2.1 (fun q _ h => hF q h) hF (fun u ra t H1 locs1 ht hvm hq hB hz hk hS1 => ?_)
  obtain ⟨rfl, hB⟩ := hB
  exact kk u H1 locs1 hq (x_backq C T isC isR hC hR hn hdis hC9 ht hvm hB hk hS1)
theorem x_kret {ty9 : FieldType} (C : xC own cc L (some ty9) p s m args meth c A) (hty : (∃ n, ty9 = .object n) ∨ ∃ t, ty9 = .array t) {post : S → Prop} {ra : Nat} (T : xT E D tys A s H locs (wq u ra)) (hq : post u) (hc : cells ≤ mc) (hs : slots ≤ ms) (hdg : decode cc pc = .ok (.areturn, 1)) :
    W p l e R s m args below meth c H locs cells slots (MQ below (va_Qr post (xBk D tys A ra wq) A) args s mc ms A) (F0 m pc ls [.ref ra]) := by
  obtain ⟨hx, hb, hr, hlk, hml, hown, hts, hA⟩ := C
  obtain ⟨hK, hP, hD, hS, hE⟩ := T
  refine W.widen hc hs ?_
  exact W.aret hx hb hr hty (Or.inr ⟨ra, rfl⟩) (fun t ht hW => ⟨⟨u, ra, rfl, hq, rfl, by rw [ht]; exact hP, va_K.moved hW.alike hK, hD⟩, hS.F ht⟩) hS.2.2 hdg hlk
end XO
