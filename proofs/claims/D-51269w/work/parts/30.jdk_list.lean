/-! lists, echoes: wp and walks -/
set_option maxRecDepth 100000
def wpJ0_init (post : Prop) : Prop := post
set_option maxHeartbeats 4000000 in
set_option maxRecDepth 100000 in
theorem mtJ0_init (l : Launch) {κ : xK} {E : xEnv} (hE : xStable κ E) (D : va_G) (d : Nat → ClassId) (ah : Nat) (mc : Int32) (n : Int32) (sz : Nat) (post : Prop) (hw : wpJ0_init post) : Met l yJ0_init (ws_ yJ0_init cJ0_init 1 none) ({ frames := 1, cells := 0, slots := 0, locals := 26 } : Room) (xPc E D (xTys d) ([(ah, .inr (7, [.int mc, .null, .int n]))]) sz [.ref ah]) ((fun A : Nat → Prop => va_Qv (fun (u : Unit) => post) (xB D (xTys d) A (fun (u : Unit) => [(ah, .inr (7, [.int mc, .null, .int n]))])) A) (va_A ([(ah, .inr (7, [.int mc, .null, .int n]))]) sz)) 0 0 (va_A ([(ah, .inr (7, [.int mc, .null, .int n]))]) sz) := by
  refine x_startI (QcA := fun A => va_Qv (fun (u : Unit) => post) (xB D (xTys d) A (fun (u : Unit) => [(ah, .inr (7, [.int mc, .null, .int n]))])) A) hE (by decide) (Nat.le_of_ble_eq_true rfl) ?_
  intro p e s m below meth c A C H locs hsz T ls hl hin
  obtain ⟨hx, hb, hr, hlk, hml, hown, hts, hA⟩ := id C
  replace hl : lv_has ls 1 [(0, .ref ah)] := hl
  unfold wpJ0_init at hw
  refine lv_aload_n hx hb dJ0_init_0 rfl (lv_at hl 0 rfl) ?_
  refine W.objInit hx hb hown (hts _ q146) (hts _ q136) (hts _ q137) rfl (hl.1.trans hml.symm) rfl dJ0_init_1 (Nat.le_of_ble_eq_true rfl) (Nat.le_of_ble_eq_true rfl) ?_
  refine W.eq (g2 := F0 m 4 ls []) rfl ?_
  exact x_vret (u := ()) C T hw (Nat.le_of_ble_eq_true rfl) (Nat.le_of_ble_eq_true rfl) dJ0_init_4
def wpJ8_init (post : Int32 → Prop) (mc : Int32) (n : Int32) : Prop := (wpJ0_init ((post 0)))
set_option maxHeartbeats 4000000 in
set_option maxRecDepth 100000 in
theorem mtJ8_init (l : Launch) {κ : xK} {E : xEnv} (hE : xStable κ E) (D : va_G) (d : Nat → ClassId) (ah : Nat) (mc : Int32) (n : Int32) (sz : Nat) (post : Int32 → Prop) (hw : wpJ8_init post mc n) : Met l yJ8_init (ws_ yJ8_init cJ8_init 1 none) ({ frames := 2, cells := 0, slots := 0, locals := 46 } : Room) (xPc E D (xTys d) ([(ah, .inr (7, [.int mc, .null, .int n]))]) sz [.ref ah]) ((fun A : Nat → Prop => va_Qv (fun (u : Int32) => post u) (xB D (xTys d) A (fun (u : Int32) => [(ah, .inr (7, [.int u, .null, .int n]))])) A) (va_A ([(ah, .inr (7, [.int mc, .null, .int n]))]) sz)) 0 0 (va_A ([(ah, .inr (7, [.int mc, .null, .int n]))]) sz) := by
  refine x_startI (QcA := fun A => va_Qv (fun (u : Int32) => post u) (xB D (xTys d) A (fun (u : Int32) => [(ah, .inr (7, [.int u, .null, .int n]))])) A) hE (by decide) (Nat.le_of_ble_eq_true rfl) ?_
  intro p e s m below meth c A C H locs hsz T ls hl hin
  obtain ⟨hx, hb, hr, hlk, hml, hown, hts, hA⟩ := id C
  replace hl : lv_has ls 1 [(0, .ref ah)] := hl
  unfold wpJ8_init at hw
  refine lv_aload_n hx hb dJ8_init_0 rfl (lv_at hl 0 rfl) ?_
  refine x_kv (X := [(ah, .inr (7, [.int mc, .null, .int n]))]) (pl := []) (wc := [(ah, .inr (7, [.int mc, .null, .int n]))]) (wr := []) C T [0] [] rfl rfl rfl (by decide) rfl (x_rI (As := []) (rest := []) C (x_preq hE T [0] rfl rfl (fun U hU hW => (x_envT (X := [(ah, .inr (7, [.int mc, .null, .int n]))]) (pl := []) hE C T [0] rfl U hU hW)) _) (mtJ0_init l hE D d ah mc n H.size _ hw) (cwI 0 hts (lw_meth q145) rfl rfl rfl (hts _ q96) (hts _ q367) (hts _ q144) rfl (by decide +kernel) ⟨Nat.le_of_ble_eq_true rfl, Nat.le_of_ble_eq_true rfl⟩) rfl hl.1 (lv_room (Nat.le_of_ble_eq_true rfl)) dJ8_init_1 ⟨(Nat.le_of_ble_eq_true rfl), (Nat.le_of_ble_eq_true rfl)⟩) (fun u H locs hw T => ?_)
  replace T : xT E D (xTys d) A s H locs ([(ah, .inr (7, [.int mc, .null, .int n]))]) := T
  refine lv_aload_n hx hb dJ8_init_4 rfl (lv_at hl 0 rfl) ?_
  refine lv_iconst (v := 0) hx hb dJ8_init_5 (by decide) ?_
  refine x_put (v := .int 0) (ty := .int) C T tyJ9 tyJ9_ok nmJ9 0 rfl rfl 0 (by decide) in_J9 q633 rfl (by decide +kernel) rfl rfl (Nat.le_of_ble_eq_true rfl) dJ8_init_6 (fun H locs T => ?_)
  replace T : xT E D (xTys d) A s H locs ([(ah, .inr (7, [.int 0, .null, .int n]))]) := T
  exact x_vret (u := (0)) C T hw (Nat.le_of_ble_eq_true rfl) (Nat.le_of_ble_eq_true rfl) dJ8_init_9
def wpJ9_init6 (post : Int32 → Nat → (Nat → Option Nat) → Prop) (mc : Int32) (n : Int32) : Prop := (wpJ8_init (fun mc_1 => (∀ q_3 : Nat, (post mc_1 q_3 (fun _ => none)))) mc n)
set_option maxHeartbeats 4000000 in
set_option maxRecDepth 100000 in
theorem mtJ9_init6 (l : Launch) {κ : xK} {E : xEnv} (hE : xStable κ E) (D : va_G) (d : Nat → ClassId) (ah : Nat) (mc : Int32) (n : Int32) (sz : Nat) (post : Int32 → Nat → (Nat → Option Nat) → Prop) (hw : wpJ9_init6 post mc n) : Met l yJ9_init (ws_ yJ9_init cJ9_init 2 none) ({ frames := 3, cells := 1, slots := 6, locals := 66 } : Room) (xPc E D (xTys d) ([(ah, .inr (7, [.int mc, .null, .int n]))]) sz [.ref ah, .int 6]) ((fun A : Nat → Prop => va_Qv (fun (u : Int32 × Nat × (Nat → Option Nat)) => post u.1 u.2.1 u.2.2) (xB D (xTys d) A (fun (u : Int32 × Nat × (Nat → Option Nat)) => [(ah, .inr (7, [.int u.1, .ref u.2.1, .int n])), (u.2.1, xQ (d 3) 6 u.2.2)])) A) (va_A ([(ah, .inr (7, [.int mc, .null, .int n]))]) sz)) 1 6 (va_A ([(ah, .inr (7, [.int mc, .null, .int n]))]) sz) := by
  refine x_startI (QcA := fun A => va_Qv (fun (u : Int32 × Nat × (Nat → Option Nat)) => post u.1 u.2.1 u.2.2) (xB D (xTys d) A (fun (u : Int32 × Nat × (Nat → Option Nat)) => [(ah, .inr (7, [.int u.1, .ref u.2.1, .int n])), (u.2.1, xQ (d 3) 6 u.2.2)])) A) hE (by decide) (Nat.le_of_ble_eq_true rfl) ?_
  intro p e s m below meth c A C H locs hsz T ls hl hin
  obtain ⟨hx, hb, hr, hlk, hml, hown, hts, hA⟩ := id C
  replace hl : lv_has ls 2 [(0, .ref ah), (1, .int 6)] := hl
  unfold wpJ9_init6 at hw
  refine lv_aload_n hx hb dJ9_init_0 rfl (lv_at hl 0 rfl) ?_
  refine x_kv (X := [(ah, .inr (7, [.int mc, .null, .int n]))]) (pl := []) (wc := [(ah, .inr (7, [.int mc, .null, .int n]))]) (wr := []) C T [0] [] rfl rfl rfl (by decide) rfl (x_rI (As := []) (rest := []) C (x_preq hE T [0] rfl rfl (fun U hU hW => (x_envT (X := [(ah, .inr (7, [.int mc, .null, .int n]))]) (pl := []) hE C T [0] rfl U hU hW)) _) (mtJ8_init l hE D d ah mc n H.size _ hw) (cwI 0 hts (lw_meth q366) rfl rfl rfl (hts _ q109) (hts _ q364) (hts _ q365) rfl (by decide +kernel) ⟨Nat.le_of_ble_eq_true rfl, Nat.le_of_ble_eq_true rfl⟩) rfl hl.1 (lv_room (Nat.le_of_ble_eq_true rfl)) dJ9_init_1 ⟨(Nat.le_of_ble_eq_true rfl), (Nat.le_of_ble_eq_true rfl)⟩) (fun u H locs hw T => ?_)
  obtain ⟨mc_1, rfl⟩ : ∃ z, z = u := ⟨_, rfl⟩
  replace T : xT E D (xTys d) A s H locs ([(ah, .inr (7, [.int mc_1, .null, .int n]))]) := T
  refine lv_iload_n hx hb dJ9_init_4 rfl (lv_at hl 1 rfl) ?_
  refine lv_if_le (tgt := 19) hx hb dJ9_init_5 (by decide) (fun c_2 => ?_) (fun c_2 => ?_)
  · exact absurd c_2 (by decide)
  refine lv_aload_n hx hb dJ9_init_8 rfl (lv_at hl 0 rfl) ?_
  refine lv_iload_n hx hb dJ9_init_9 rfl (lv_at hl 1 rfl) ?_
  refine x_newq C T hE q368 q149 3 rfl (by decide) (N' := 6) (by decide) (by decide) (Nat.le_of_ble_eq_true rfl) (Nat.le_of_ble_eq_true rfl) dJ9_init_10 (fun q_3 H T => ?_)
  replace hw := hw q_3
  replace T : xT E D (xTys d) A s H locs ([(ah, .inr (7, [.int mc_1, .null, .int n])), (q_3, xQ (d 3) 6 (fun _ => none))]) := T
  refine x_put (v := .ref q_3) (ty := .array (.object "java/lang/Object")) C T tyJ9 tyJ9_ok nmJ9 0 rfl rfl 1 (by decide) in_J9 q629 rfl (by decide +kernel) rfl rfl (Nat.le_of_ble_eq_true rfl) dJ9_init_13 (fun H locs T => ?_)
  replace T : xT E D (xTys d) A s H locs ([(ah, .inr (7, [.int mc_1, .ref q_3, .int n])), (q_3, xQ (d 3) 6 (fun _ => none))]) := T
  refine lv_goto (tgt := 60) hx hb dJ9_init_16 (by decide) ?_
  exact x_vret (u := (mc_1, q_3, (fun _ => none))) C T hw (Nat.le_of_ble_eq_true rfl) (Nat.le_of_ble_eq_true rfl) dJ9_init_60
def wpJ9_init7 (post : Int32 → Nat → (Nat → Option Nat) → Prop) (mc : Int32) (n : Int32) : Prop := (wpJ8_init (fun mc_1 => (∀ q_3 : Nat, (post mc_1 q_3 (fun _ => none)))) mc n)
set_option maxHeartbeats 4000000 in
set_option maxRecDepth 100000 in
theorem mtJ9_init7 (l : Launch) {κ : xK} {E : xEnv} (hE : xStable κ E) (D : va_G) (d : Nat → ClassId) (ah : Nat) (mc : Int32) (n : Int32) (sz : Nat) (post : Int32 → Nat → (Nat → Option Nat) → Prop) (hw : wpJ9_init7 post mc n) : Met l yJ9_init (ws_ yJ9_init cJ9_init 2 none) ({ frames := 3, cells := 1, slots := 7, locals := 66 } : Room) (xPc E D (xTys d) ([(ah, .inr (7, [.int mc, .null, .int n]))]) sz [.ref ah, .int 7]) ((fun A : Nat → Prop => va_Qv (fun (u : Int32 × Nat × (Nat → Option Nat)) => post u.1 u.2.1 u.2.2) (xB D (xTys d) A (fun (u : Int32 × Nat × (Nat → Option Nat)) => [(ah, .inr (7, [.int u.1, .ref u.2.1, .int n])), (u.2.1, xQ (d 3) 7 u.2.2)])) A) (va_A ([(ah, .inr (7, [.int mc, .null, .int n]))]) sz)) 1 7 (va_A ([(ah, .inr (7, [.int mc, .null, .int n]))]) sz) := by
  refine x_startI (QcA := fun A => va_Qv (fun (u : Int32 × Nat × (Nat → Option Nat)) => post u.1 u.2.1 u.2.2) (xB D (xTys d) A (fun (u : Int32 × Nat × (Nat → Option Nat)) => [(ah, .inr (7, [.int u.1, .ref u.2.1, .int n])), (u.2.1, xQ (d 3) 7 u.2.2)])) A) hE (by decide) (Nat.le_of_ble_eq_true rfl) ?_
  intro p e s m below meth c A C H locs hsz T ls hl hin
  obtain ⟨hx, hb, hr, hlk, hml, hown, hts, hA⟩ := id C
  replace hl : lv_has ls 2 [(0, .ref ah), (1, .int 7)] := hl
  unfold wpJ9_init7 at hw
  refine lv_aload_n hx hb dJ9_init_0 rfl (lv_at hl 0 rfl) ?_
  refine x_kv (X := [(ah, .inr (7, [.int mc, .null, .int n]))]) (pl := []) (wc := [(ah, .inr (7, [.int mc, .null, .int n]))]) (wr := []) C T [0] [] rfl rfl rfl (by decide) rfl (x_rI (As := []) (rest := []) C (x_preq hE T [0] rfl rfl (fun U hU hW => (x_envT (X := [(ah, .inr (7, [.int mc, .null, .int n]))]) (pl := []) hE C T [0] rfl U hU hW)) _) (mtJ8_init l hE D d ah mc n H.size _ hw) (cwI 0 hts (lw_meth q366) rfl rfl rfl (hts _ q109) (hts _ q364) (hts _ q365) rfl (by decide +kernel) ⟨Nat.le_of_ble_eq_true rfl, Nat.le_of_ble_eq_true rfl⟩) rfl hl.1 (lv_room (Nat.le_of_ble_eq_true rfl)) dJ9_init_1 ⟨(Nat.le_of_ble_eq_true rfl), (Nat.le_of_ble_eq_true rfl)⟩) (fun u H locs hw T => ?_)
  obtain ⟨mc_1, rfl⟩ : ∃ z, z = u := ⟨_, rfl⟩
  replace T : xT E D (xTys d) A s H locs ([(ah, .inr (7, [.int mc_1, .null, .int n]))]) := T
  refine lv_iload_n hx hb dJ9_init_4 rfl (lv_at hl 1 rfl) ?_
  refine lv_if_le (tgt := 19) hx hb dJ9_init_5 (by decide) (fun c_2 => ?_) (fun c_2 => ?_)
  · exact absurd c_2 (by decide)
  refine lv_aload_n hx hb dJ9_init_8 rfl (lv_at hl 0 rfl) ?_
  refine lv_iload_n hx hb dJ9_init_9 rfl (lv_at hl 1 rfl) ?_
  refine x_newq C T hE q368 q149 3 rfl (by decide) (N' := 7) (by decide) (by decide) (Nat.le_of_ble_eq_true rfl) (Nat.le_of_ble_eq_true rfl) dJ9_init_10 (fun q_3 H T => ?_)
  replace hw := hw q_3
  replace T : xT E D (xTys d) A s H locs ([(ah, .inr (7, [.int mc_1, .null, .int n])), (q_3, xQ (d 3) 7 (fun _ => none))]) := T
  refine x_put (v := .ref q_3) (ty := .array (.object "java/lang/Object")) C T tyJ9 tyJ9_ok nmJ9 0 rfl rfl 1 (by decide) in_J9 q629 rfl (by decide +kernel) rfl rfl (Nat.le_of_ble_eq_true rfl) dJ9_init_13 (fun H locs T => ?_)
  replace T : xT E D (xTys d) A s H locs ([(ah, .inr (7, [.int mc_1, .ref q_3, .int n])), (q_3, xQ (d 3) 7 (fun _ => none))]) := T
  refine lv_goto (tgt := 60) hx hb dJ9_init_16 (by decide) ?_
  exact x_vret (u := (mc_1, q_3, (fun _ => none))) C T hw (Nat.le_of_ble_eq_true rfl) (Nat.le_of_ble_eq_true rfl) dJ9_init_60
def wpJ17_checkIndex (post : Int32 → Prop) (p0 : Int32) (p1 : Int32) : Prop := ((p0 < 0 → False) ∧ (¬ p0 < 0 → ((p0 < p1 → (post p0)) ∧ (¬ p0 < p1 → False))))
set_option maxHeartbeats 4000000 in
set_option maxRecDepth 100000 in
theorem mtJ17_checkIndex (l : Launch) {κ : xK} {E : xEnv} (hE : xStable κ E) (D : va_G) (d : Nat → ClassId) (p0 : Int32) (p1 : Int32) (sz : Nat) (post : Int32 → Prop) (hw : wpJ17_checkIndex post p0 p1) : Met l yJ17_checkIndex (ws_ yJ17_checkIndex cJ17_checkIndex 3 (some .int)) ({ frames := 1, cells := 0, slots := 0, locals := 0 } : Room) (xPc E D (xTys d) ([]) sz [.int p0, .int p1, .null]) ((fun A : Nat → Prop => va_Qi (fun (r : Int32) (u : Unit) => post r) (xB D (xTys d) A (fun (u : Unit) => [])) A) (va_A ([]) sz)) 0 0 (va_A ([]) sz) := by
  refine x_start (QcA := fun A => va_Qi (fun (r : Int32) (u : Unit) => post r) (xB D (xTys d) A (fun (u : Unit) => [])) A) hE (by decide) (Nat.le_of_ble_eq_true rfl) ?_
  intro p e s m below meth c A C H locs hsz T ls hl
  obtain ⟨hx, hb, hr, hlk, hml, hown, hts, hA⟩ := id C
  replace hl : lv_has ls 3 [(0, .int p0), (1, .int p1), (2, .null)] := hl
  unfold wpJ17_checkIndex at hw
  refine lv_iload_n hx hb dJ17_checkIndex_0 rfl (lv_at hl 0 rfl) ?_
  refine lv_if_lt (tgt := 9) hx hb dJ17_checkIndex_1 (by decide) (fun c_1 => ?_) (fun c_1 => ?_)
  · replace hw := hw.1 c_1
    refine lv_aload_nN hx hb dJ17_checkIndex_9 rfl (lv_at hl 2 rfl) ?_
    refine lv_iload_n hx hb dJ17_checkIndex_10 rfl (lv_at hl 0 rfl) ?_
    refine lv_iload_n hx hb dJ17_checkIndex_11 rfl (lv_at hl 1 rfl) ?_
    exact hw.elim
  · replace hw := hw.2 c_1
    refine lv_iload_n hx hb dJ17_checkIndex_4 rfl (lv_at hl 0 rfl) ?_
    refine lv_iload_n hx hb dJ17_checkIndex_5 rfl (lv_at hl 1 rfl) ?_
    refine lv_icmp_lt (tgt := 16) hx hb dJ17_checkIndex_6 (by decide) (fun c_2 => ?_) (fun c_2 => ?_)
    · replace hw := hw.1 c_2
      refine lv_iload_n hx hb dJ17_checkIndex_16 rfl (lv_at hl 0 rfl) ?_
      exact x_iret (u := ()) C T hw (Nat.le_of_ble_eq_true rfl) (Nat.le_of_ble_eq_true rfl) dJ17_checkIndex_17
    · replace hw := hw.2 c_2
      refine lv_aload_nN hx hb dJ17_checkIndex_9 rfl (lv_at hl 2 rfl) ?_
      refine lv_iload_n hx hb dJ17_checkIndex_10 rfl (lv_at hl 0 rfl) ?_
      refine lv_iload_n hx hb dJ17_checkIndex_11 rfl (lv_at hl 1 rfl) ?_
      exact hw.elim
def wpJ21_checkIndex (post : Int32 → Prop) (p0 : Int32) (p1 : Int32) : Prop := (wpJ17_checkIndex (fun r_1 => (post r_1)) p0 p1)
set_option maxHeartbeats 4000000 in
set_option maxRecDepth 100000 in
theorem mtJ21_checkIndex (l : Launch) {κ : xK} {E : xEnv} (hE : xStable κ E) (D : va_G) (d : Nat → ClassId) (p0 : Int32) (p1 : Int32) (sz : Nat) (post : Int32 → Prop) (hw : wpJ21_checkIndex post p0 p1) : Met l yJ21_checkIndex (ws_ yJ21_checkIndex cJ21_checkIndex 2 (some .int)) ({ frames := 2, cells := 0, slots := 0, locals := 22 } : Room) (xPc E D (xTys d) ([]) sz [.int p0, .int p1]) ((fun A : Nat → Prop => va_Qi (fun (r : Int32) (u : Unit) => post r) (xB D (xTys d) A (fun (u : Unit) => [])) A) (va_A ([]) sz)) 0 0 (va_A ([]) sz) := by
  refine x_start (QcA := fun A => va_Qi (fun (r : Int32) (u : Unit) => post r) (xB D (xTys d) A (fun (u : Unit) => [])) A) hE (by decide) (Nat.le_of_ble_eq_true rfl) ?_
  intro p e s m below meth c A C H locs hsz T ls hl
  obtain ⟨hx, hb, hr, hlk, hml, hown, hts, hA⟩ := id C
  replace hl : lv_has ls 2 [(0, .int p0), (1, .int p1)] := hl
  unfold wpJ21_checkIndex at hw
  refine lv_iload_n hx hb dJ21_checkIndex_0 rfl (lv_at hl 0 rfl) ?_
  refine lv_iload_n hx hb dJ21_checkIndex_1 rfl (lv_at hl 1 rfl) ?_
  refine lv_null hx hb dJ21_checkIndex_2 ?_
  refine x_ki (X := []) (pl := []) (wc := []) (wr := []) C T [] [] rfl rfl rfl (by decide) rfl (x_rS (As := [.int p0, .int p1, .null]) (rest := []) C (x_preq hE T [] rfl rfl (fun U hU hW => (x_envT (X := []) (pl := []) hE C T [] rfl U hU hW)) _) (mtJ17_checkIndex l hE D d p0 p1 H.size _ hw) (va_cwS 3 hts (lw_S q1175 q786 q119 q787) rfl rfl rfl (by decide +kernel) ⟨Nat.le_of_ble_eq_true rfl, Nat.le_of_ble_eq_true rfl⟩) rfl hl.1 (lv_room (Nat.le_of_ble_eq_true rfl)) dJ21_checkIndex_3 ⟨(Nat.le_of_ble_eq_true rfl), (Nat.le_of_ble_eq_true rfl)⟩) (fun r u H locs hw T => ?_)
  obtain ⟨r_1, rfl⟩ : ∃ z, z = r := ⟨_, rfl⟩
  replace T : xT E D (xTys d) A s H locs ([]) := T
  exact x_iret (u := ()) C T hw (Nat.le_of_ble_eq_true rfl) (Nat.le_of_ble_eq_true rfl) dJ21_checkIndex_6
def wpJ9_size (post : Int32 → Prop) (n : Int32) : Prop := (post n)
set_option maxHeartbeats 4000000 in
set_option maxRecDepth 100000 in
theorem mtJ9_size (l : Launch) {κ : xK} {E : xEnv} (hE : xStable κ E) (D : va_G) (d : Nat → ClassId) (ah ae : Nat) (mc : Int32) (n : Int32) (b1 : ∀ (A : Nat → Prop) (U : State) (H : Heap), E A U H → xAt D (ah, .inr (7, [.int mc, .ref ae, .int n])) A U H) (sz : Nat) (post : Int32 → Prop) (hw : wpJ9_size post n) : Met l yJ9_size (ws_ yJ9_size cJ9_size 1 (some .int)) ({ frames := 1, cells := 0, slots := 0, locals := 0 } : Room) (xPc E D (xTys d) ([]) sz [.ref ah]) ((fun A : Nat → Prop => va_Qi (fun (r : Int32) (u : Unit) => post r) (xB D (xTys d) A (fun (u : Unit) => [])) A) (va_A ([]) sz)) 0 0 (va_A ([]) sz) := by
  refine x_start (QcA := fun A => va_Qi (fun (r : Int32) (u : Unit) => post r) (xB D (xTys d) A (fun (u : Unit) => [])) A) hE (by decide) (Nat.le_of_ble_eq_true rfl) ?_
  intro p e s m below meth c A C H locs hsz T ls hl
  obtain ⟨hx, hb, hr, hlk, hml, hown, hts, hA⟩ := id C
  replace hl : lv_has ls 1 [(0, .ref ah)] := hl
  unfold wpJ9_size at hw
  refine lv_aload_n hx hb dJ9_size_0 rfl (lv_at hl 0 rfl) ?_
  refine x_getA (v := .int n) (ci := 7) C T (x_now T (b1 _ _ _ T.2.2.2.2)) rfl 2 (by decide) in_J9 q632 rfl dJ9_size_1 ?_
  exact x_iret (u := ()) C T hw (Nat.le_of_ble_eq_true rfl) (Nat.le_of_ble_eq_true rfl) dJ9_size_4
def wpJ9_elementData (post : (Option Nat) → Prop) (N : Nat) (f : Nat → Option Nat) (p1 : Int32) : Prop := (vp_in p1 N ∧ (∀ o_1 : Option Nat, o_1 = f p1.toNatClampNeg → (post o_1)))
set_option maxHeartbeats 4000000 in
set_option maxRecDepth 100000 in
theorem mtJ9_elementData (l : Launch) {κ : xK} {E : xEnv} (hE : xStable κ E) (D : va_G) (d : Nat → ClassId) (ah ae : Nat) (mc : Int32) (n : Int32) (N : Nat) (f : Nat → Option Nat) (p1 : Int32) (b1 : ∀ (A : Nat → Prop) (U : State) (H : Heap), E A U H → xAt D (ah, .inr (7, [.int mc, .ref ae, .int n])) A U H) (b2 : ∀ (A : Nat → Prop) (U : State) (H : Heap), E A U H → xAt D (ae, xQ (d 3) N f) A U H) (sz : Nat) (post : (Option Nat) → Prop) (hw : wpJ9_elementData post N f p1) : Met l yJ9_elementData (ws_ yJ9_elementData cJ9_elementData 2 (some (.object "java/lang/Object"))) ({ frames := 1, cells := 0, slots := 0, locals := 0 } : Room) (xPc E D (xTys d) ([]) sz [.ref ah, .int p1]) ((fun A : Nat → Prop => va_Qq (fun (r : Option Nat) (u : Unit) => post r) (xB D (xTys d) A (fun (u : Unit) => [])) A) (va_A ([]) sz)) 0 0 (va_A ([]) sz) := by
  refine x_start (QcA := fun A => va_Qq (fun (r : Option Nat) (u : Unit) => post r) (xB D (xTys d) A (fun (u : Unit) => [])) A) hE (by decide) (Nat.le_of_ble_eq_true rfl) ?_
  intro p e s m below meth c A C H locs hsz T ls hl
  obtain ⟨hx, hb, hr, hlk, hml, hown, hts, hA⟩ := id C
  replace hl : lv_has ls 2 [(0, .ref ah), (1, .int p1)] := hl
  unfold wpJ9_elementData at hw
  refine lv_aload_n hx hb dJ9_elementData_0 rfl (lv_at hl 0 rfl) ?_
  refine x_getA (v := .ref ae) (ci := 7) C T (x_now T (b1 _ _ _ T.2.2.2.2)) rfl 1 (by decide) in_J9 q629 rfl dJ9_elementData_1 ?_
  refine lv_iload_n hx hb dJ9_elementData_4 rfl (lv_at hl 1 rfl) ?_
  refine x_aldq C T 3 (x_now T (b2 _ _ _ T.2.2.2.2)) rfl hw.1 rfl dJ9_elementData_5 ?_
  replace hw := hw.2
  refine x_topq (fun o_1 eo_1 => ?_)
  replace hw := hw o_1 eo_1
  exact x_qret (r := o_1) (u := ()) C (Or.inl ⟨_, rfl⟩) T hw (Nat.le_of_ble_eq_true rfl) (Nat.le_of_ble_eq_true rfl) dJ9_elementData_6
def wpJ9_get (post : (Option Nat) → Prop) (mc : Int32) (n : Int32) (N : Nat) (f : Nat → Option Nat) (p1 : Int32) : Prop := (wpJ21_checkIndex (fun r_1 => (wpJ9_elementData (fun o_2 => (post o_2)) N f p1)) p1 n)
set_option maxHeartbeats 4000000 in
set_option maxRecDepth 100000 in
theorem mtJ9_get (l : Launch) {κ : xK} {E : xEnv} (hE : xStable κ E) (D : va_G) (d : Nat → ClassId) (ah ae : Nat) (mc : Int32) (n : Int32) (N : Nat) (f : Nat → Option Nat) (p1 : Int32) (b1 : ∀ (A : Nat → Prop) (U : State) (H : Heap), E A U H → xAt D (ah, .inr (7, [.int mc, .ref ae, .int n])) A U H) (b2 : ∀ (A : Nat → Prop) (U : State) (H : Heap), E A U H → xAt D (ae, xQ (d 3) N f) A U H) (sz : Nat) (post : (Option Nat) → Prop) (hw : wpJ9_get post mc n N f p1) : Met l yJ9_get (ws_ yJ9_get cJ9_get 2 (some (.object "java/lang/Object"))) ({ frames := 3, cells := 0, slots := 0, locals := 43 } : Room) (xPc E D (xTys d) ([]) sz [.ref ah, .int p1]) ((fun A : Nat → Prop => va_Qq (fun (r : Option Nat) (u : Unit) => post r) (xB D (xTys d) A (fun (u : Unit) => [])) A) (va_A ([]) sz)) 0 0 (va_A ([]) sz) := by
  refine x_start (QcA := fun A => va_Qq (fun (r : Option Nat) (u : Unit) => post r) (xB D (xTys d) A (fun (u : Unit) => [])) A) hE (by decide) (Nat.le_of_ble_eq_true rfl) ?_
  intro p e s m below meth c A C H locs hsz T ls hl
  obtain ⟨hx, hb, hr, hlk, hml, hown, hts, hA⟩ := id C
  replace hl : lv_has ls 2 [(0, .ref ah), (1, .int p1)] := hl
  unfold wpJ9_get at hw
  refine lv_iload_n hx hb dJ9_get_0 rfl (lv_at hl 1 rfl) ?_
  refine lv_aload_n hx hb dJ9_get_1 rfl (lv_at hl 0 rfl) ?_
  refine x_getA (v := .int n) (ci := 7) C T (x_now T (b1 _ _ _ T.2.2.2.2)) rfl 2 (by decide) in_J9 q632 rfl dJ9_get_2 ?_
  refine x_ki (X := []) (pl := []) (wc := []) (wr := []) C T [] [] rfl rfl rfl (by decide) rfl (x_rS (As := [.int p1, .int n]) (rest := []) C (x_preq hE T [] rfl rfl (fun U hU hW => (x_envT (X := []) (pl := []) hE C T [] rfl U hU hW)) _) (mtJ21_checkIndex l hE D d p1 n H.size _ hw) (va_cwS 2 hts (lw_S q1172 q1173 q126 q1174) rfl rfl rfl (by decide +kernel) ⟨Nat.le_of_ble_eq_true rfl, Nat.le_of_ble_eq_true rfl⟩) rfl hl.1 (lv_room (Nat.le_of_ble_eq_true rfl)) dJ9_get_5 ⟨(Nat.le_of_ble_eq_true rfl), (Nat.le_of_ble_eq_true rfl)⟩) (fun r u H locs hw T => ?_)
  obtain ⟨r_1, rfl⟩ : ∃ z, z = r := ⟨_, rfl⟩
  replace T : xT E D (xTys d) A s H locs ([]) := T
  refine lv_pop hx hb dJ9_get_8 rfl ?_
  refine lv_aload_n hx hb dJ9_get_9 rfl (lv_at hl 0 rfl) ?_
  refine lv_iload_n hx hb dJ9_get_10 rfl (lv_at hl 1 rfl) ?_
  refine x_kq (X := []) (pl := []) (wc := []) (wr := []) C T [] [] rfl rfl rfl (by decide) rfl (x_rV (As := [.int p1]) (rest := []) C (x_preq (xAnd_stable (xAnd_stable hE (xAt_moves D (ah, .inr (7, [.int mc, .ref ae, .int n])))) (xAt_moves D (ae, xQ (d 3) N f))) T [] rfl rfl (fun U hU hW => ⟨⟨(x_envT (X := []) (pl := []) hE C T [] rfl U hU hW), (b1 _ _ _ (x_envT (X := []) (pl := []) hE C T [] rfl U hU hW))⟩, (b2 _ _ _ (x_envT (X := []) (pl := []) hE C T [] rfl U hU hW))⟩) _) (mtJ9_elementData l (xAnd_stable (xAnd_stable hE (xAt_moves D (ah, .inr (7, [.int mc, .ref ae, .int n])))) (xAt_moves D (ae, xQ (d 3) N f))) D d ah ae mc n N f p1 (fun A U H h => h.1.2) (fun A U H h => h.2) H.size _ hw) (cwV 1 hts (lw_V q1176 q1177 q1178 q110 q1179) rfl rfl rfl (by decide +kernel) ⟨Nat.le_of_ble_eq_true rfl, Nat.le_of_ble_eq_true rfl⟩) (x_recvA T (ci := 7) rfl (x_now T (b1 _ _ _ T.2.2.2.2))) rfl hl.1 (lv_room (Nat.le_of_ble_eq_true rfl)) dJ9_get_11 ⟨(Nat.le_of_ble_eq_true rfl), (Nat.le_of_ble_eq_true rfl)⟩) (fun o_2 u H locs hw T => ?_)
  replace T : xT E D (xTys d) A s H locs ([]) := T
  exact x_qret (r := o_2) (u := ()) C (Or.inl ⟨_, rfl⟩) T hw (Nat.le_of_ble_eq_true rfl) (Nat.le_of_ble_eq_true rfl) dJ9_get_14
def wpJ9_add_2P (post : Int32 → (Nat → Option Nat) → Prop) (ax : Nat) (n : Int32) (N : Nat) (f : Nat → Option Nat) (p3 : Int32) : Prop := ((p3 = (nI N) → False) ∧ (¬ p3 = (nI N) → (vp_in p3 N ∧ (∀ f_2 : Nat → Option Nat, f_2 = va_up f p3.toNatClampNeg (some ax) → (∀ f_3 : Int32, f_3 = p3 + 1 → (post f_3 f_2))))))
set_option maxHeartbeats 4000000 in
set_option maxRecDepth 100000 in
theorem mtJ9_add_2P (l : Launch) {κ : xK} {E : xEnv} (hE : xStable κ E) (D : va_G) (d : Nat → ClassId) (ah ae ax : Nat) (mc : Int32) (n : Int32) (N : Nat) (f : Nat → Option Nat) (xw : Int32) (xs : Int32) (p3 : Int32) (b1 : ∀ (A : Nat → Prop) (U : State) (H : Heap), E A U H → xAt D (ax, .inr (6, [.int xw, .int xs])) A U H) (sz : Nat) (post : Int32 → (Nat → Option Nat) → Prop) (hw : wpJ9_add_2P post ax n N f p3) : Met l yJ9_add_2 (ws_ yJ9_add_2 cJ9_add_2 4 none) ({ frames := 1, cells := 0, slots := 0, locals := 0 } : Room) (xPc E D (xTys d) ([(ah, .inr (7, [.int mc, .ref ae, .int n])), (ae, xQ (d 3) N f)]) sz [.ref ah, .ref ax, .ref ae, .int p3]) ((fun A : Nat → Prop => va_Qv (fun (u : Int32 × (Nat → Option Nat)) => post u.1 u.2) (xB D (xTys d) A (fun (u : Int32 × (Nat → Option Nat)) => [(ah, .inr (7, [.int mc, .ref ae, .int u.1])), (ae, xQ (d 3) N u.2)])) A) (va_A ([(ah, .inr (7, [.int mc, .ref ae, .int n])), (ae, xQ (d 3) N f)]) sz)) 0 0 (va_A ([(ah, .inr (7, [.int mc, .ref ae, .int n])), (ae, xQ (d 3) N f)]) sz) := by
  refine x_start (QcA := fun A => va_Qv (fun (u : Int32 × (Nat → Option Nat)) => post u.1 u.2) (xB D (xTys d) A (fun (u : Int32 × (Nat → Option Nat)) => [(ah, .inr (7, [.int mc, .ref ae, .int u.1])), (ae, xQ (d 3) N u.2)])) A) hE (by decide) (Nat.le_of_ble_eq_true rfl) ?_
  intro p e s m below meth c A C H locs hsz T ls hl
  obtain ⟨hx, hb, hr, hlk, hml, hown, hts, hA⟩ := id C
  replace hl : lv_has ls 4 [(0, .ref ah), (1, .ref ax), (2, .ref ae), (3, .int p3)] := hl
  unfold wpJ9_add_2P at hw
  refine lv_iload_n hx hb dJ9_add_2_0 rfl (lv_at hl 3 rfl) ?_
  refine lv_aload_n hx hb dJ9_add_2_1 rfl (lv_at hl 2 rfl) ?_
  refine va_alen (v := nI N) hx hb T.1 (x_nowP (T.at0 1 rfl)) 0 3 rfl rfl rfl dJ9_add_2_2 ?_
  refine lv_icmp_ne (tgt := 11) hx hb dJ9_add_2_3 (by decide) (fun c_1 => ?_) (fun c_1 => ?_)
  · replace hw := hw.2 c_1
    refine lv_aload_n hx hb dJ9_add_2_11 rfl (lv_at hl 2 rfl) ?_
    refine lv_iload_n hx hb dJ9_add_2_12 rfl (lv_at hl 3 rfl) ?_
    refine lv_aload_n hx hb dJ9_add_2_13 rfl (lv_at hl 1 rfl) ?_
    refine x_astq C T 1 3 rfl rfl (x_any T hE (ci := 6) (x_now T (b1 _ _ _ T.2.2.2.2)) rfl q2559) hw.1 rfl dJ9_add_2_14 (fun H locs T => ?_)
    replace hw := hw.2
    obtain ⟨f_2, ef_2⟩ : ∃ z : Nat → Option Nat, z = va_up f p3.toNatClampNeg (some ax) := ⟨_, rfl⟩
    replace T : xT E D (xTys d) A s H locs ([(ah, .inr (7, [.int mc, .ref ae, .int n])), (ae, xQ (d 3) N f_2)]) := by rw [ef_2]; exact T
    replace hw := hw f_2 ef_2
    refine lv_aload_n hx hb dJ9_add_2_15 rfl (lv_at hl 0 rfl) ?_
    refine lv_iload_n hx hb dJ9_add_2_16 rfl (lv_at hl 3 rfl) ?_
    refine lv_iconst (v := 1) hx hb dJ9_add_2_17 (by decide) ?_
    refine lv_iadd hx hb dJ9_add_2_18 ?_
    refine lv_topi (fun f_3 ef_3 => ?_)
    replace hw := hw f_3 ef_3
    refine x_put (v := .int f_3) (ty := .int) C T tyJ9 tyJ9_ok nmJ9 0 rfl rfl 2 (by decide) in_J9 q632 rfl (by decide +kernel) rfl rfl (Nat.le_of_ble_eq_true rfl) dJ9_add_2_19 (fun H locs T => ?_)
    replace T : xT E D (xTys d) A s H locs ([(ah, .inr (7, [.int mc, .ref ae, .int f_3])), (ae, xQ (d 3) N f_2)]) := T
    exact x_vret (u := (f_3, f_2)) C T hw (Nat.le_of_ble_eq_true rfl) (Nat.le_of_ble_eq_true rfl) dJ9_add_2_22
  · replace hw := hw.1 c_1
    refine lv_aload_n hx hb dJ9_add_2_6 rfl (lv_at hl 0 rfl) ?_
    exact hw.elim
def wpJ9_addP (post : Bool → Int32 → Int32 → (Nat → Option Nat) → Prop) (ax : Nat) (mc : Int32) (n : Int32) (N : Nat) (f : Nat → Option Nat) (xw : Int32) (xs : Int32) : Prop := (∀ f_1 : Int32, f_1 = mc + 1 → (wpJ9_add_2P (fun n_2 f_3 => (post true f_1 n_2 f_3)) ax n N f n))
set_option maxHeartbeats 4000000 in
set_option maxRecDepth 100000 in
theorem mtJ9_addP (l : Launch) {κ : xK} {E : xEnv} (hE : xStable κ E) (D : va_G) (d : Nat → ClassId) (ah ae ax : Nat) (mc : Int32) (n : Int32) (N : Nat) (f : Nat → Option Nat) (xw : Int32) (xs : Int32) (b1 : ∀ (A : Nat → Prop) (U : State) (H : Heap), E A U H → xAt D (ax, .inr (6, [.int xw, .int xs])) A U H) (sz : Nat) (post : Bool → Int32 → Int32 → (Nat → Option Nat) → Prop) (hw : wpJ9_addP post ax mc n N f xw xs) : Met l yJ9_add (ws_ yJ9_add cJ9_add 2 (some .boolean)) ({ frames := 2, cells := 0, slots := 0, locals := 23 } : Room) (xPc E D (xTys d) ([(ah, .inr (7, [.int mc, .ref ae, .int n])), (ae, xQ (d 3) N f)]) sz [.ref ah, .ref ax]) ((fun A : Nat → Prop => va_Qi (fun (r : Int32) (u : Int32 × Int32 × (Nat → Option Nat)) => ∃ b : Bool, r = bI b ∧ post b u.1 u.2.1 u.2.2) (xB D (xTys d) A (fun (u : Int32 × Int32 × (Nat → Option Nat)) => [(ah, .inr (7, [.int u.1, .ref ae, .int u.2.1])), (ae, xQ (d 3) N u.2.2)])) A) (va_A ([(ah, .inr (7, [.int mc, .ref ae, .int n])), (ae, xQ (d 3) N f)]) sz)) 0 0 (va_A ([(ah, .inr (7, [.int mc, .ref ae, .int n])), (ae, xQ (d 3) N f)]) sz) := by
  refine x_start (QcA := fun A => va_Qi (fun (r : Int32) (u : Int32 × Int32 × (Nat → Option Nat)) => ∃ b : Bool, r = bI b ∧ post b u.1 u.2.1 u.2.2) (xB D (xTys d) A (fun (u : Int32 × Int32 × (Nat → Option Nat)) => [(ah, .inr (7, [.int u.1, .ref ae, .int u.2.1])), (ae, xQ (d 3) N u.2.2)])) A) hE (by decide) (Nat.le_of_ble_eq_true rfl) ?_
  intro p e s m below meth c A C H locs hsz T ls hl
  obtain ⟨hx, hb, hr, hlk, hml, hown, hts, hA⟩ := id C
  replace hl : lv_has ls 2 [(0, .ref ah), (1, .ref ax)] := hl
  unfold wpJ9_addP at hw
  refine lv_aload_n hx hb dJ9_add_0 rfl (lv_at hl 0 rfl) ?_
  refine lv_dup hx hb dJ9_add_1 rfl ?_
  refine x_getL (v := .int mc) (ci := 7) C T (T.at0 0 rfl) rfl 0 (by decide) in_J9 q636 q635 rfl dJ9_add_2 (fun h => x_sameF h) ?_
  refine lv_iconst (v := 1) hx hb dJ9_add_5 (by decide) ?_
  refine lv_iadd hx hb dJ9_add_6 ?_
  refine lv_topi (fun f_1 ef_1 => ?_)
  replace hw := hw f_1 ef_1
  refine x_putL (v := .int f_1) (ty := .int) C T tyJ9 tyJ9_ok nmJ9 0 rfl rfl 0 (by decide) in_J9 q636 q635 rfl (by decide +kernel) rfl rfl (Nat.le_of_ble_eq_true rfl) dJ9_add_7 (fun H locs T => ?_)
  replace T : xT E D (xTys d) A s H locs ([(ah, .inr (7, [.int f_1, .ref ae, .int n])), (ae, xQ (d 3) N f)]) := T
  refine lv_aload_n hx hb dJ9_add_10 rfl (lv_at hl 0 rfl) ?_
  refine lv_aload_n hx hb dJ9_add_11 rfl (lv_at hl 1 rfl) ?_
  refine lv_aload_n hx hb dJ9_add_12 rfl (lv_at hl 0 rfl) ?_
  refine x_getA (v := .ref ae) (ci := 7) C T (T.at0 0 rfl) rfl 1 (by decide) in_J9 q629 rfl dJ9_add_13 ?_
  refine lv_aload_n hx hb dJ9_add_16 rfl (lv_at hl 0 rfl) ?_
  refine x_getA (v := .int n) (ci := 7) C T (T.at0 0 rfl) rfl 2 (by decide) in_J9 q632 rfl dJ9_add_17 ?_
  refine x_kv (X := [(ah, .inr (7, [.int f_1, .ref ae, .int n])), (ae, xQ (d 3) N f)]) (pl := []) (wc := [(ah, .inr (7, [.int f_1, .ref ae, .int n])), (ae, xQ (d 3) N f)]) (wr := []) C T [0, 1] [] rfl rfl rfl (by decide) rfl (x_rV (As := [.ref ax, .ref ae, .int n]) (rest := []) C (x_preq (xAnd_stable hE (xAt_moves D (ax, .inr (6, [.int xw, .int xs])))) T [0, 1] rfl rfl (fun U hU hW => ⟨(x_envT (X := [(ah, .inr (7, [.int f_1, .ref ae, .int n])), (ae, xQ (d 3) N f)]) (pl := []) hE C T [0, 1] rfl U hU hW), (b1 _ _ _ (x_envT (X := [(ah, .inr (7, [.int f_1, .ref ae, .int n])), (ae, xQ (d 3) N f)]) (pl := []) hE C T [0, 1] rfl U hU hW))⟩) _) (mtJ9_add_2P l (xAnd_stable hE (xAt_moves D (ax, .inr (6, [.int xw, .int xs])))) D d ah ae ax f_1 n N f xw xs n (fun A U H h => h.2) H.size _ hw) (cwV 3 hts (lw_V q1064 q1066 qs16 q110 q1067) rfl rfl rfl (by decide +kernel) ⟨Nat.le_of_ble_eq_true rfl, Nat.le_of_ble_eq_true rfl⟩) (x_recvA T (ci := 7) rfl (T.at0 0 rfl)) rfl hl.1 (lv_room (Nat.le_of_ble_eq_true rfl)) dJ9_add_20 ⟨(Nat.le_of_ble_eq_true rfl), (Nat.le_of_ble_eq_true rfl)⟩) (fun u H locs hw T => ?_)
  obtain ⟨n_2, f_3⟩ := u
  replace T : xT E D (xTys d) A s H locs ([(ah, .inr (7, [.int f_1, .ref ae, .int n_2])), (ae, xQ (d 3) N f_3)]) := T
  refine lv_iconst (v := 1) hx hb dJ9_add_23 (by decide) ?_
  exact x_zret (b := true) (u := (f_1, n_2, f_3)) C T rfl hw (Nat.le_of_ble_eq_true rfl) (Nat.le_of_ble_eq_true rfl) dJ9_add_24
def wpJ9_add_2B (post : Int32 → (Nat → Option Nat) → Prop) (ax : Nat) (n : Int32) (N : Nat) (f : Nat → Option Nat) (p3 : Int32) : Prop := ((p3 = (nI N) → False) ∧ (¬ p3 = (nI N) → (vp_in p3 N ∧ (∀ f_2 : Nat → Option Nat, f_2 = va_up f p3.toNatClampNeg (some ax) → (∀ f_3 : Int32, f_3 = p3 + 1 → (post f_3 f_2))))))
set_option maxHeartbeats 4000000 in
set_option maxRecDepth 100000 in
theorem mtJ9_add_2B (l : Launch) {κ : xK} {E : xEnv} (hE : xStable κ E) (D : va_G) (d : Nat → ClassId) (ah ae ax : Nat) (mc : Int32) (n : Int32) (N : Nat) (f : Nat → Option Nat) (xw : Int32) (xs : Int32) (p3 : Int32) (b1 : ∀ (A : Nat → Prop) (U : State) (H : Heap), E A U H → xAt D (ax, .inr (5, [.int xw, .int xs])) A U H) (sz : Nat) (post : Int32 → (Nat → Option Nat) → Prop) (hw : wpJ9_add_2B post ax n N f p3) : Met l yJ9_add_2 (ws_ yJ9_add_2 cJ9_add_2 4 none) ({ frames := 1, cells := 0, slots := 0, locals := 0 } : Room) (xPc E D (xTys d) ([(ah, .inr (7, [.int mc, .ref ae, .int n])), (ae, xQ (d 3) N f)]) sz [.ref ah, .ref ax, .ref ae, .int p3]) ((fun A : Nat → Prop => va_Qv (fun (u : Int32 × (Nat → Option Nat)) => post u.1 u.2) (xB D (xTys d) A (fun (u : Int32 × (Nat → Option Nat)) => [(ah, .inr (7, [.int mc, .ref ae, .int u.1])), (ae, xQ (d 3) N u.2)])) A) (va_A ([(ah, .inr (7, [.int mc, .ref ae, .int n])), (ae, xQ (d 3) N f)]) sz)) 0 0 (va_A ([(ah, .inr (7, [.int mc, .ref ae, .int n])), (ae, xQ (d 3) N f)]) sz) := by
  refine x_start (QcA := fun A => va_Qv (fun (u : Int32 × (Nat → Option Nat)) => post u.1 u.2) (xB D (xTys d) A (fun (u : Int32 × (Nat → Option Nat)) => [(ah, .inr (7, [.int mc, .ref ae, .int u.1])), (ae, xQ (d 3) N u.2)])) A) hE (by decide) (Nat.le_of_ble_eq_true rfl) ?_
  intro p e s m below meth c A C H locs hsz T ls hl
  obtain ⟨hx, hb, hr, hlk, hml, hown, hts, hA⟩ := id C
  replace hl : lv_has ls 4 [(0, .ref ah), (1, .ref ax), (2, .ref ae), (3, .int p3)] := hl
  unfold wpJ9_add_2B at hw
  refine lv_iload_n hx hb dJ9_add_2_0 rfl (lv_at hl 3 rfl) ?_
  refine lv_aload_n hx hb dJ9_add_2_1 rfl (lv_at hl 2 rfl) ?_
  refine va_alen (v := nI N) hx hb T.1 (x_nowP (T.at0 1 rfl)) 0 3 rfl rfl rfl dJ9_add_2_2 ?_
  refine lv_icmp_ne (tgt := 11) hx hb dJ9_add_2_3 (by decide) (fun c_1 => ?_) (fun c_1 => ?_)
  · replace hw := hw.2 c_1
    refine lv_aload_n hx hb dJ9_add_2_11 rfl (lv_at hl 2 rfl) ?_
    refine lv_iload_n hx hb dJ9_add_2_12 rfl (lv_at hl 3 rfl) ?_
    refine lv_aload_n hx hb dJ9_add_2_13 rfl (lv_at hl 1 rfl) ?_
    refine x_astq C T 1 3 rfl rfl (x_any T hE (ci := 5) (x_now T (b1 _ _ _ T.2.2.2.2)) rfl q2558) hw.1 rfl dJ9_add_2_14 (fun H locs T => ?_)
    replace hw := hw.2
    obtain ⟨f_2, ef_2⟩ : ∃ z : Nat → Option Nat, z = va_up f p3.toNatClampNeg (some ax) := ⟨_, rfl⟩
    replace T : xT E D (xTys d) A s H locs ([(ah, .inr (7, [.int mc, .ref ae, .int n])), (ae, xQ (d 3) N f_2)]) := by rw [ef_2]; exact T
    replace hw := hw f_2 ef_2
    refine lv_aload_n hx hb dJ9_add_2_15 rfl (lv_at hl 0 rfl) ?_
    refine lv_iload_n hx hb dJ9_add_2_16 rfl (lv_at hl 3 rfl) ?_
    refine lv_iconst (v := 1) hx hb dJ9_add_2_17 (by decide) ?_
    refine lv_iadd hx hb dJ9_add_2_18 ?_
    refine lv_topi (fun f_3 ef_3 => ?_)
    replace hw := hw f_3 ef_3
    refine x_put (v := .int f_3) (ty := .int) C T tyJ9 tyJ9_ok nmJ9 0 rfl rfl 2 (by decide) in_J9 q632 rfl (by decide +kernel) rfl rfl (Nat.le_of_ble_eq_true rfl) dJ9_add_2_19 (fun H locs T => ?_)
    replace T : xT E D (xTys d) A s H locs ([(ah, .inr (7, [.int mc, .ref ae, .int f_3])), (ae, xQ (d 3) N f_2)]) := T
    exact x_vret (u := (f_3, f_2)) C T hw (Nat.le_of_ble_eq_true rfl) (Nat.le_of_ble_eq_true rfl) dJ9_add_2_22
  · replace hw := hw.1 c_1
    refine lv_aload_n hx hb dJ9_add_2_6 rfl (lv_at hl 0 rfl) ?_
    exact hw.elim
def wpJ9_addB (post : Bool → Int32 → Int32 → (Nat → Option Nat) → Prop) (ax : Nat) (mc : Int32) (n : Int32) (N : Nat) (f : Nat → Option Nat) (xw : Int32) (xs : Int32) : Prop := (∀ f_1 : Int32, f_1 = mc + 1 → (wpJ9_add_2B (fun n_2 f_3 => (post true f_1 n_2 f_3)) ax n N f n))
set_option maxHeartbeats 4000000 in
set_option maxRecDepth 100000 in
theorem mtJ9_addB (l : Launch) {κ : xK} {E : xEnv} (hE : xStable κ E) (D : va_G) (d : Nat → ClassId) (ah ae ax : Nat) (mc : Int32) (n : Int32) (N : Nat) (f : Nat → Option Nat) (xw : Int32) (xs : Int32) (b1 : ∀ (A : Nat → Prop) (U : State) (H : Heap), E A U H → xAt D (ax, .inr (5, [.int xw, .int xs])) A U H) (sz : Nat) (post : Bool → Int32 → Int32 → (Nat → Option Nat) → Prop) (hw : wpJ9_addB post ax mc n N f xw xs) : Met l yJ9_add (ws_ yJ9_add cJ9_add 2 (some .boolean)) ({ frames := 2, cells := 0, slots := 0, locals := 23 } : Room) (xPc E D (xTys d) ([(ah, .inr (7, [.int mc, .ref ae, .int n])), (ae, xQ (d 3) N f)]) sz [.ref ah, .ref ax]) ((fun A : Nat → Prop => va_Qi (fun (r : Int32) (u : Int32 × Int32 × (Nat → Option Nat)) => ∃ b : Bool, r = bI b ∧ post b u.1 u.2.1 u.2.2) (xB D (xTys d) A (fun (u : Int32 × Int32 × (Nat → Option Nat)) => [(ah, .inr (7, [.int u.1, .ref ae, .int u.2.1])), (ae, xQ (d 3) N u.2.2)])) A) (va_A ([(ah, .inr (7, [.int mc, .ref ae, .int n])), (ae, xQ (d 3) N f)]) sz)) 0 0 (va_A ([(ah, .inr (7, [.int mc, .ref ae, .int n])), (ae, xQ (d 3) N f)]) sz) := by
  refine x_start (QcA := fun A => va_Qi (fun (r : Int32) (u : Int32 × Int32 × (Nat → Option Nat)) => ∃ b : Bool, r = bI b ∧ post b u.1 u.2.1 u.2.2) (xB D (xTys d) A (fun (u : Int32 × Int32 × (Nat → Option Nat)) => [(ah, .inr (7, [.int u.1, .ref ae, .int u.2.1])), (ae, xQ (d 3) N u.2.2)])) A) hE (by decide) (Nat.le_of_ble_eq_true rfl) ?_
  intro p e s m below meth c A C H locs hsz T ls hl
  obtain ⟨hx, hb, hr, hlk, hml, hown, hts, hA⟩ := id C
  replace hl : lv_has ls 2 [(0, .ref ah), (1, .ref ax)] := hl
  unfold wpJ9_addB at hw
  refine lv_aload_n hx hb dJ9_add_0 rfl (lv_at hl 0 rfl) ?_
  refine lv_dup hx hb dJ9_add_1 rfl ?_
  refine x_getL (v := .int mc) (ci := 7) C T (T.at0 0 rfl) rfl 0 (by decide) in_J9 q636 q635 rfl dJ9_add_2 (fun h => x_sameF h) ?_
  refine lv_iconst (v := 1) hx hb dJ9_add_5 (by decide) ?_
  refine lv_iadd hx hb dJ9_add_6 ?_
  refine lv_topi (fun f_1 ef_1 => ?_)
  replace hw := hw f_1 ef_1
  refine x_putL (v := .int f_1) (ty := .int) C T tyJ9 tyJ9_ok nmJ9 0 rfl rfl 0 (by decide) in_J9 q636 q635 rfl (by decide +kernel) rfl rfl (Nat.le_of_ble_eq_true rfl) dJ9_add_7 (fun H locs T => ?_)
  replace T : xT E D (xTys d) A s H locs ([(ah, .inr (7, [.int f_1, .ref ae, .int n])), (ae, xQ (d 3) N f)]) := T
  refine lv_aload_n hx hb dJ9_add_10 rfl (lv_at hl 0 rfl) ?_
  refine lv_aload_n hx hb dJ9_add_11 rfl (lv_at hl 1 rfl) ?_
  refine lv_aload_n hx hb dJ9_add_12 rfl (lv_at hl 0 rfl) ?_
  refine x_getA (v := .ref ae) (ci := 7) C T (T.at0 0 rfl) rfl 1 (by decide) in_J9 q629 rfl dJ9_add_13 ?_
  refine lv_aload_n hx hb dJ9_add_16 rfl (lv_at hl 0 rfl) ?_
  refine x_getA (v := .int n) (ci := 7) C T (T.at0 0 rfl) rfl 2 (by decide) in_J9 q632 rfl dJ9_add_17 ?_
  refine x_kv (X := [(ah, .inr (7, [.int f_1, .ref ae, .int n])), (ae, xQ (d 3) N f)]) (pl := []) (wc := [(ah, .inr (7, [.int f_1, .ref ae, .int n])), (ae, xQ (d 3) N f)]) (wr := []) C T [0, 1] [] rfl rfl rfl (by decide) rfl (x_rV (As := [.ref ax, .ref ae, .int n]) (rest := []) C (x_preq (xAnd_stable hE (xAt_moves D (ax, .inr (5, [.int xw, .int xs])))) T [0, 1] rfl rfl (fun U hU hW => ⟨(x_envT (X := [(ah, .inr (7, [.int f_1, .ref ae, .int n])), (ae, xQ (d 3) N f)]) (pl := []) hE C T [0, 1] rfl U hU hW), (b1 _ _ _ (x_envT (X := [(ah, .inr (7, [.int f_1, .ref ae, .int n])), (ae, xQ (d 3) N f)]) (pl := []) hE C T [0, 1] rfl U hU hW))⟩) _) (mtJ9_add_2B l (xAnd_stable hE (xAt_moves D (ax, .inr (5, [.int xw, .int xs])))) D d ah ae ax f_1 n N f xw xs n (fun A U H h => h.2) H.size _ hw) (cwV 3 hts (lw_V q1064 q1066 qs16 q110 q1067) rfl rfl rfl (by decide +kernel) ⟨Nat.le_of_ble_eq_true rfl, Nat.le_of_ble_eq_true rfl⟩) (x_recvA T (ci := 7) rfl (T.at0 0 rfl)) rfl hl.1 (lv_room (Nat.le_of_ble_eq_true rfl)) dJ9_add_20 ⟨(Nat.le_of_ble_eq_true rfl), (Nat.le_of_ble_eq_true rfl)⟩) (fun u H locs hw T => ?_)
  obtain ⟨n_2, f_3⟩ := u
  replace T : xT E D (xTys d) A s H locs ([(ah, .inr (7, [.int f_1, .ref ae, .int n_2])), (ae, xQ (d 3) N f_3)]) := T
  refine lv_iconst (v := 1) hx hb dJ9_add_23 (by decide) ?_
  exact x_zret (b := true) (u := (f_1, n_2, f_3)) C T rfl hw (Nat.le_of_ble_eq_true rfl) (Nat.le_of_ble_eq_true rfl) dJ9_add_24
def wpJ20_init (post : Int32 → Int32 → Prop) (la : Int32) (ex : Int32) (mc : Int32) : Prop := (post (-1) mc)
set_option maxHeartbeats 4000000 in
set_option maxRecDepth 100000 in
theorem mtJ20_init (l : Launch) {κ : xK} {E : xEnv} (hE : xStable κ E) (D : va_G) (d : Nat → ClassId) (aq ah ae : Nat) (cu : Int32) (la : Int32) (ex : Int32) (mc : Int32) (n : Int32) (b1 : ∀ (A : Nat → Prop) (U : State) (H : Heap), E A U H → xAt D (ah, .inr (7, [.int mc, .ref ae, .int n])) A U H) (sz : Nat) (post : Int32 → Int32 → Prop) (hw : wpJ20_init post la ex mc) : Met l yJ20_init (ws_ yJ20_init cJ20_init 2 none) ({ frames := 1, cells := 0, slots := 0, locals := 26 } : Room) (xPc E D (xTys d) ([(aq, .inr (8, [.int cu, .int la, .int ex, .null]))]) sz [.ref aq, .ref ah]) ((fun A : Nat → Prop => va_Qv (fun (u : Int32 × Int32) => post u.1 u.2) (xB D (xTys d) A (fun (u : Int32 × Int32) => [(aq, .inr (8, [.int cu, .int u.1, .int u.2, .ref ah]))])) A) (va_A ([(aq, .inr (8, [.int cu, .int la, .int ex, .null]))]) sz)) 0 0 (va_A ([(aq, .inr (8, [.int cu, .int la, .int ex, .null]))]) sz) := by
  refine x_startI (QcA := fun A => va_Qv (fun (u : Int32 × Int32) => post u.1 u.2) (xB D (xTys d) A (fun (u : Int32 × Int32) => [(aq, .inr (8, [.int cu, .int u.1, .int u.2, .ref ah]))])) A) hE (by decide) (Nat.le_of_ble_eq_true rfl) ?_
  intro p e s m below meth c A C H locs hsz T ls hl hin
  obtain ⟨hx, hb, hr, hlk, hml, hown, hts, hA⟩ := id C
  replace hl : lv_has ls 2 [(0, .ref aq), (1, .ref ah)] := hl
  unfold wpJ20_init at hw
  refine lv_aload_n hx hb dJ20_init_0 rfl (lv_at hl 0 rfl) ?_
  refine lv_aload_n hx hb dJ20_init_1 rfl (lv_at hl 1 rfl) ?_
  refine x_putF (v := .ref ah) (ty := .object "java/util/ArrayList") C T tyJ20 tyJ20_ok nmJ20 0 rfl rfl 3 (by decide) in_J20 q1004 rfl hin rfl (by decide +kernel) rfl rfl (Nat.le_of_ble_eq_true rfl) dJ20_init_2 (fun H locs T => ?_)
  replace T : xT E D (xTys d) A s H locs ([(aq, .inr (8, [.int cu, .int la, .int ex, .ref ah]))]) := T
  refine lv_aload_n hx hb dJ20_init_5 rfl (lv_at hl 0 rfl) ?_
  refine W.objInit hx hb hown (hts _ q1000) (hts _ q136) (hts _ q137) rfl (hl.1.trans hml.symm) rfl dJ20_init_6 (Nat.le_of_ble_eq_true rfl) (Nat.le_of_ble_eq_true rfl) ?_
  refine W.eq (g2 := F0 m 9 ls []) rfl ?_
  refine lv_aload_n hx hb dJ20_init_9 rfl (lv_at hl 0 rfl) ?_
  refine lv_iconst (v := (-1)) hx hb dJ20_init_10 (by decide) ?_
  refine x_put (v := .int (-1)) (ty := .int) C T tyJ20 tyJ20_ok nmJ20 0 rfl rfl 1 (by decide) in_J20 q1002 rfl (by decide +kernel) rfl rfl (Nat.le_of_ble_eq_true rfl) dJ20_init_11 (fun H locs T => ?_)
  replace T : xT E D (xTys d) A s H locs ([(aq, .inr (8, [.int cu, .int (-1), .int ex, .ref ah]))]) := T
  refine lv_aload_n hx hb dJ20_init_14 rfl (lv_at hl 0 rfl) ?_
  refine lv_aload_n hx hb dJ20_init_15 rfl (lv_at hl 0 rfl) ?_
  refine x_getA (v := .ref ah) (ci := 8) C T (T.at0 0 rfl) rfl 3 (by decide) in_J20 q1004 rfl dJ20_init_16 ?_
  refine x_getL (v := .int mc) (ci := 7) C T (x_now T (b1 _ _ _ T.2.2.2.2)) rfl 0 (by decide) in_J9 q634 q635 rfl dJ20_init_19 (fun h => x_sameF h) ?_
  refine x_put (v := .int mc) (ty := .int) C T tyJ20 tyJ20_ok nmJ20 0 rfl rfl 2 (by decide) in_J20 q1003 rfl (by decide +kernel) rfl rfl (Nat.le_of_ble_eq_true rfl) dJ20_init_22 (fun H locs T => ?_)
  replace T : xT E D (xTys d) A s H locs ([(aq, .inr (8, [.int cu, .int (-1), .int mc, .ref ah]))]) := T
  exact x_vret (u := ((-1), mc)) C T hw (Nat.le_of_ble_eq_true rfl) (Nat.le_of_ble_eq_true rfl) dJ20_init_25
def wpJ9_iterator (post : Int32 → Int32 → Int32 → Prop) (mc : Int32) (n : Int32) : Prop := (∀ q_1 : Nat, (wpJ20_init (fun la_2 ex_3 => (post 0 la_2 ex_3)) 0 0 mc))
set_option maxHeartbeats 4000000 in
set_option maxRecDepth 100000 in
theorem mtJ9_iterator (l : Launch) {κ : xK} {E : xEnv} (hE : xStable κ E) (D : va_G) (d : Nat → ClassId) (ah ae : Nat) (mc : Int32) (n : Int32) (b1 : ∀ (A : Nat → Prop) (U : State) (H : Heap), E A U H → xAt D (ah, .inr (7, [.int mc, .ref ae, .int n])) A U H) (sz : Nat) (post : Int32 → Int32 → Int32 → Prop) (hw : wpJ9_iterator post mc n) : Met l yJ9_iterator (ws_ yJ9_iterator cJ9_iterator 1 (some (.object "java/util/Iterator"))) ({ frames := 2, cells := 1, slots := 4, locals := 47 } : Room) (xPc E D (xTys d) ([]) sz [.ref ah]) ((fun A : Nat → Prop => va_Qr (fun (u : Int32 × Int32 × Int32) => post u.1 u.2.1 u.2.2) (xBr D (xTys d) A (fun (u : Int32 × Int32 × Int32) (ra : Nat) => [(ra, .inr (8, [.int u.1, .int u.2.1, .int u.2.2, .ref ah]))])) A) (va_A ([]) sz)) 1 4 (va_A ([]) sz) := by
  refine x_start (QcA := fun A => va_Qr (fun (u : Int32 × Int32 × Int32) => post u.1 u.2.1 u.2.2) (xBr D (xTys d) A (fun (u : Int32 × Int32 × Int32) (ra : Nat) => [(ra, .inr (8, [.int u.1, .int u.2.1, .int u.2.2, .ref ah]))])) A) hE (by decide) (Nat.le_of_ble_eq_true rfl) ?_
  intro p e s m below meth c A C H locs hsz T ls hl
  obtain ⟨hx, hb, hr, hlk, hml, hown, hts, hA⟩ := id C
  replace hl : lv_has ls 1 [(0, .ref ah)] := hl
  unfold wpJ9_iterator at hw
  refine x_new (ci := 8) (fs := [.int 0, .int 0, .int 0, .null]) C T tyJ20 tyJ20_ok in_J20 q995 q996 q124 rfl (by decide) (Nat.le_of_ble_eq_true rfl) (Nat.le_of_ble_eq_true rfl) dJ9_iterator_0 (fun q_1 H T => ?_)
  replace hw := hw q_1
  replace T : xT E D (xTys d) A s H locs ([(q_1, .inr (8, [.int 0, .int 0, .int 0, .null]))]) := T
  refine lv_dup hx hb dJ9_iterator_3 rfl ?_
  refine lv_aload_n hx hb dJ9_iterator_4 rfl (lv_at hl 0 rfl) ?_
  refine x_kv (X := [(q_1, .inr (8, [.int 0, .int 0, .int 0, .null]))]) (pl := []) (wc := [(q_1, .inr (8, [.int 0, .int 0, .int 0, .null]))]) (wr := []) C T [0] [] rfl rfl rfl (by decide) rfl (x_rI (As := [.ref ah]) (rest := [.ref q_1]) C (x_preq (xAnd_stable hE (xAt_moves D (ah, .inr (7, [.int mc, .ref ae, .int n])))) T [0] rfl rfl (fun U hU hW => ⟨(x_envT (X := [(q_1, .inr (8, [.int 0, .int 0, .int 0, .null]))]) (pl := []) hE C T [0] rfl U hU hW), (b1 _ _ _ (x_envT (X := [(q_1, .inr (8, [.int 0, .int 0, .int 0, .null]))]) (pl := []) hE C T [0] rfl U hU hW))⟩) _) (mtJ20_init l (xAnd_stable hE (xAt_moves D (ah, .inr (7, [.int mc, .ref ae, .int n])))) D d q_1 ah ae 0 0 0 mc n (fun A U H h => h.2) H.size _ hw) (cwI 1 hts (lw_meth q999) rfl rfl rfl (hts _ q124) (hts _ q997) (hts _ q998) rfl (by decide +kernel) ⟨Nat.le_of_ble_eq_true rfl, Nat.le_of_ble_eq_true rfl⟩) rfl hl.1 (lv_room (Nat.le_of_ble_eq_true rfl)) dJ9_iterator_5 ⟨(Nat.le_of_ble_eq_true rfl), (Nat.le_of_ble_eq_true rfl)⟩) (fun u H locs hw T => ?_)
  obtain ⟨la_2, ex_3⟩ := u
  replace T : xT E D (xTys d) A s H locs ([(q_1, .inr (8, [.int 0, .int la_2, .int ex_3, .ref ah]))]) := T
  exact x_rret (ra := q_1) (u := (0, la_2, ex_3)) C (Or.inl ⟨_, rfl⟩) T hw (Nat.le_of_ble_eq_true rfl) (Nat.le_of_ble_eq_true rfl) dJ9_iterator_8
def wpJ20_hasNext (post : Bool → Prop) (cu : Int32) (n : Int32) : Prop := ((cu = n → (post false)) ∧ (¬ cu = n → (post true)))
set_option maxHeartbeats 4000000 in
set_option maxRecDepth 100000 in
theorem mtJ20_hasNext (l : Launch) {κ : xK} {E : xEnv} (hE : xStable κ E) (D : va_G) (d : Nat → ClassId) (aq ah ae : Nat) (cu : Int32) (la : Int32) (ex : Int32) (mc : Int32) (n : Int32) (b0 : ∀ (A : Nat → Prop) (U : State) (H : Heap), E A U H → xAt D (aq, .inr (8, [.int cu, .int la, .int ex, .ref ah])) A U H) (b1 : ∀ (A : Nat → Prop) (U : State) (H : Heap), E A U H → xAt D (ah, .inr (7, [.int mc, .ref ae, .int n])) A U H) (sz : Nat) (post : Bool → Prop) (hw : wpJ20_hasNext post cu n) : Met l yJ20_hasNext (ws_ yJ20_hasNext cJ20_hasNext 1 (some .boolean)) ({ frames := 1, cells := 0, slots := 0, locals := 0 } : Room) (xPc E D (xTys d) ([]) sz [.ref aq]) ((fun A : Nat → Prop => va_Qi (fun (r : Int32) (u : Unit) => ∃ b : Bool, r = bI b ∧ post b) (xB D (xTys d) A (fun (u : Unit) => [])) A) (va_A ([]) sz)) 0 0 (va_A ([]) sz) := by
  refine x_start (QcA := fun A => va_Qi (fun (r : Int32) (u : Unit) => ∃ b : Bool, r = bI b ∧ post b) (xB D (xTys d) A (fun (u : Unit) => [])) A) hE (by decide) (Nat.le_of_ble_eq_true rfl) ?_
  intro p e s m below meth c A C H locs hsz T ls hl
  obtain ⟨hx, hb, hr, hlk, hml, hown, hts, hA⟩ := id C
  replace hl : lv_has ls 1 [(0, .ref aq)] := hl
  unfold wpJ20_hasNext at hw
  refine lv_aload_n hx hb dJ20_hasNext_0 rfl (lv_at hl 0 rfl) ?_
  refine x_getA (v := .int cu) (ci := 8) C T (x_now T (b0 _ _ _ T.2.2.2.2)) rfl 0 (by decide) in_J20 q1001 rfl dJ20_hasNext_1 ?_
  refine lv_aload_n hx hb dJ20_hasNext_4 rfl (lv_at hl 0 rfl) ?_
  refine x_getA (v := .ref ah) (ci := 8) C T (x_now T (b0 _ _ _ T.2.2.2.2)) rfl 3 (by decide) in_J20 q1004 rfl dJ20_hasNext_5 ?_
  refine x_getN (v := .int n) (ci := 7) C T hE (x_now T (b1 _ _ _ T.2.2.2.2)) rfl 2 (by decide) in_J9 q631 rfl dJ20_hasNext_8 ?_
  refine lv_icmp_eq (tgt := 18) hx hb dJ20_hasNext_11 (by decide) (fun c_1 => ?_) (fun c_1 => ?_)
  · replace hw := hw.1 c_1
    refine lv_iconst (v := 0) hx hb dJ20_hasNext_18 (by decide) ?_
    exact x_zret (b := false) (u := ()) C T rfl hw (Nat.le_of_ble_eq_true rfl) (Nat.le_of_ble_eq_true rfl) dJ20_hasNext_19
  · replace hw := hw.2 c_1
    refine lv_iconst (v := 1) hx hb dJ20_hasNext_14 (by decide) ?_
    refine lv_goto (tgt := 19) hx hb dJ20_hasNext_15 (by decide) ?_
    exact x_zret (b := true) (u := ()) C T rfl hw (Nat.le_of_ble_eq_true rfl) (Nat.le_of_ble_eq_true rfl) dJ20_hasNext_19
def wpJ20_checkForComodification (post : Prop) (ex : Int32) (mc : Int32) : Prop := ((mc = ex → post) ∧ (¬ mc = ex → False))
set_option maxHeartbeats 4000000 in
set_option maxRecDepth 100000 in
theorem mtJ20_checkForComodification (l : Launch) {κ : xK} {E : xEnv} (hE : xStable κ E) (D : va_G) (d : Nat → ClassId) (aq ah ae : Nat) (cu : Int32) (la : Int32) (ex : Int32) (mc : Int32) (n : Int32) (b0 : ∀ (A : Nat → Prop) (U : State) (H : Heap), E A U H → xAt D (aq, .inr (8, [.int cu, .int la, .int ex, .ref ah])) A U H) (b1 : ∀ (A : Nat → Prop) (U : State) (H : Heap), E A U H → xAt D (ah, .inr (7, [.int mc, .ref ae, .int n])) A U H) (sz : Nat) (post : Prop) (hw : wpJ20_checkForComodification post ex mc) : Met l yJ20_checkForComodification (ws_ yJ20_checkForComodification cJ20_checkForComodification 1 none) ({ frames := 1, cells := 0, slots := 0, locals := 0 } : Room) (xPc E D (xTys d) ([]) sz [.ref aq]) ((fun A : Nat → Prop => va_Qv (fun (u : Unit) => post) (xB D (xTys d) A (fun (u : Unit) => [])) A) (va_A ([]) sz)) 0 0 (va_A ([]) sz) := by
  refine x_start (QcA := fun A => va_Qv (fun (u : Unit) => post) (xB D (xTys d) A (fun (u : Unit) => [])) A) hE (by decide) (Nat.le_of_ble_eq_true rfl) ?_
  intro p e s m below meth c A C H locs hsz T ls hl
  obtain ⟨hx, hb, hr, hlk, hml, hown, hts, hA⟩ := id C
  replace hl : lv_has ls 1 [(0, .ref aq)] := hl
  unfold wpJ20_checkForComodification at hw
  refine lv_aload_n hx hb dJ20_checkForComodification_0 rfl (lv_at hl 0 rfl) ?_
  refine x_getA (v := .ref ah) (ci := 8) C T (x_now T (b0 _ _ _ T.2.2.2.2)) rfl 3 (by decide) in_J20 q1004 rfl dJ20_checkForComodification_1 ?_
  refine x_getL (v := .int mc) (ci := 7) C T (x_now T (b1 _ _ _ T.2.2.2.2)) rfl 0 (by decide) in_J9 q634 q635 rfl dJ20_checkForComodification_4 (fun h => x_sameF h) ?_
  refine lv_aload_n hx hb dJ20_checkForComodification_7 rfl (lv_at hl 0 rfl) ?_
  refine x_getA (v := .int ex) (ci := 8) C T (x_now T (b0 _ _ _ T.2.2.2.2)) rfl 2 (by decide) in_J20 q1003 rfl dJ20_checkForComodification_8 ?_
  refine lv_icmp_eq (tgt := 22) hx hb dJ20_checkForComodification_11 (by decide) (fun c_1 => ?_) (fun c_1 => ?_)
  · replace hw := hw.1 c_1
    exact x_vret (u := ()) C T hw (Nat.le_of_ble_eq_true rfl) (Nat.le_of_ble_eq_true rfl) dJ20_checkForComodification_22
  · replace hw := hw.2 c_1
    exact hw.elim
def wpJ20_next (post : (Option Nat) → Int32 → Int32 → Prop) (cu : Int32) (la : Int32) (ex : Int32) (mc : Int32) (n : Int32) (N : Nat) (f : Nat → Option Nat) : Prop := (wpJ20_checkForComodification (((cu < n → ((cu < (nI N) → (∀ f_3 : Int32, f_3 = cu + 1 → (vp_in cu N ∧ (∀ o_4 : Option Nat, o_4 = f cu.toNatClampNeg → (post o_4 f_3 cu))))) ∧ (¬ cu < (nI N) → False))) ∧ (¬ cu < n → False))) ex mc)
set_option maxHeartbeats 4000000 in
set_option maxRecDepth 100000 in
theorem mtJ20_next (l : Launch) {κ : xK} {E : xEnv} (hE : xStable κ E) (D : va_G) (d : Nat → ClassId) (aq ah ae : Nat) (cu : Int32) (la : Int32) (ex : Int32) (mc : Int32) (n : Int32) (N : Nat) (f : Nat → Option Nat) (b1 : ∀ (A : Nat → Prop) (U : State) (H : Heap), E A U H → xAt D (ah, .inr (7, [.int mc, .ref ae, .int n])) A U H) (b2 : ∀ (A : Nat → Prop) (U : State) (H : Heap), E A U H → xAt D (ae, xQ (d 3) N f) A U H) (sz : Nat) (post : (Option Nat) → Int32 → Int32 → Prop) (hw : wpJ20_next post cu la ex mc n N f) : Met l yJ20_next (ws_ yJ20_next cJ20_next 3 (some (.object "java/lang/Object"))) ({ frames := 2, cells := 0, slots := 0, locals := 20 } : Room) (xPc E D (xTys d) ([(aq, .inr (8, [.int cu, .int la, .int ex, .ref ah]))]) sz [.ref aq]) ((fun A : Nat → Prop => va_Qq (fun (r : Option Nat) (u : Int32 × Int32) => post r u.1 u.2) (xB D (xTys d) A (fun (u : Int32 × Int32) => [(aq, .inr (8, [.int u.1, .int u.2, .int ex, .ref ah]))])) A) (va_A ([(aq, .inr (8, [.int cu, .int la, .int ex, .ref ah]))]) sz)) 0 0 (va_A ([(aq, .inr (8, [.int cu, .int la, .int ex, .ref ah]))]) sz) := by
  refine x_start (QcA := fun A => va_Qq (fun (r : Option Nat) (u : Int32 × Int32) => post r u.1 u.2) (xB D (xTys d) A (fun (u : Int32 × Int32) => [(aq, .inr (8, [.int u.1, .int u.2, .int ex, .ref ah]))])) A) hE (by decide) (Nat.le_of_ble_eq_true rfl) ?_
  intro p e s m below meth c A C H locs hsz T ls hl
  obtain ⟨hx, hb, hr, hlk, hml, hown, hts, hA⟩ := id C
  replace hl : lv_has ls 3 [(0, .ref aq)] := hl
  unfold wpJ20_next at hw
  refine lv_aload_n hx hb dJ20_next_0 rfl (lv_at hl 0 rfl) ?_
  refine x_kv (X := [(aq, .inr (8, [.int cu, .int la, .int ex, .ref ah]))]) (pl := []) (wc := []) (wr := [(aq, .inr (8, [.int cu, .int la, .int ex, .ref ah]))]) C T [] [0] rfl rfl rfl (by decide) rfl (x_rV (As := []) (rest := []) C (x_preq (xAnd_stable (xAnd_stable hE (xAt_moves D (aq, .inr (8, [.int cu, .int la, .int ex, .ref ah])))) (xAt_moves D (ah, .inr (7, [.int mc, .ref ae, .int n])))) T [] rfl rfl (fun U hU hW => ⟨⟨(x_envT (X := [(aq, .inr (8, [.int cu, .int la, .int ex, .ref ah]))]) (pl := []) hE C T [] rfl U hU hW), (x_envA T [] rfl 0 rfl (by decide) U hU hW)⟩, (b1 _ _ _ (x_envT (X := [(aq, .inr (8, [.int cu, .int la, .int ex, .ref ah]))]) (pl := []) hE C T [] rfl U hU hW))⟩) _) (mtJ20_checkForComodification l (xAnd_stable (xAnd_stable hE (xAt_moves D (aq, .inr (8, [.int cu, .int la, .int ex, .ref ah])))) (xAt_moves D (ah, .inr (7, [.int mc, .ref ae, .int n])))) D d aq ah ae cu la ex mc n (fun A U H h => h.1.2) (fun A U H h => h.2) H.size _ hw) (cwV 0 hts (lw_V q1033 q1034 q1035 q124 q1036) rfl rfl rfl (by decide +kernel) ⟨Nat.le_of_ble_eq_true rfl, Nat.le_of_ble_eq_true rfl⟩) (x_recvA T (ci := 8) rfl (T.at0 0 rfl)) rfl hl.1 (lv_room (Nat.le_of_ble_eq_true rfl)) dJ20_next_1 ⟨(Nat.le_of_ble_eq_true rfl), (Nat.le_of_ble_eq_true rfl)⟩) (fun u H locs hw T => ?_)
  replace T : xT E D (xTys d) A s H locs ([(aq, .inr (8, [.int cu, .int la, .int ex, .ref ah]))]) := T
  refine lv_aload_n hx hb dJ20_next_4 rfl (lv_at hl 0 rfl) ?_
  refine x_getA (v := .int cu) (ci := 8) C T (T.at0 0 rfl) rfl 0 (by decide) in_J20 q1001 rfl dJ20_next_5 ?_
  refine lv_istore_n (lv' := [(1, .int cu), (0, .ref aq)]) hx hb dJ20_next_8 rfl hl (by decide) rfl (fun ls hl => ?_)
  refine lv_iload_n hx hb dJ20_next_9 rfl (lv_at hl 0 rfl) ?_
  refine lv_aload_n hx hb dJ20_next_10 rfl (lv_at hl 1 rfl) ?_
  refine x_getA (v := .ref ah) (ci := 8) C T (T.at0 0 rfl) rfl 3 (by decide) in_J20 q1004 rfl dJ20_next_11 ?_
  refine x_getN (v := .int n) (ci := 7) C T hE (x_now T (b1 _ _ _ T.2.2.2.2)) rfl 2 (by decide) in_J9 q631 rfl dJ20_next_14 ?_
  refine lv_icmp_lt (tgt := 28) hx hb dJ20_next_17 (by decide) (fun c_1 => ?_) (fun c_1 => ?_)
  · replace hw := hw.1 c_1
    refine lv_aload_n hx hb dJ20_next_28 rfl (lv_at hl 1 rfl) ?_
    refine x_getA (v := .ref ah) (ci := 8) C T (T.at0 0 rfl) rfl 3 (by decide) in_J20 q1004 rfl dJ20_next_29 ?_
    refine x_getA (v := .ref ae) (ci := 7) C T (x_now T (b1 _ _ _ T.2.2.2.2)) rfl 1 (by decide) in_J9 q630 rfl dJ20_next_32 ?_
    refine lv_astore_n (lv' := [(2, .ref ae), (1, .int cu), (0, .ref aq)]) hx hb dJ20_next_35 rfl hl (by decide) rfl (fun ls hl => ?_)
    refine lv_iload_n hx hb dJ20_next_36 rfl (lv_at hl 1 rfl) ?_
    refine lv_aload_n hx hb dJ20_next_37 rfl (lv_at hl 0 rfl) ?_
    refine va_alen (v := nI N) hx hb T.1 (x_nowP (x_now T (b2 _ _ _ T.2.2.2.2))) 0 3 rfl rfl rfl dJ20_next_38 ?_
    refine lv_icmp_lt (tgt := 50) hx hb dJ20_next_39 (by decide) (fun c_2 => ?_) (fun c_2 => ?_)
    · replace hw := hw.1 c_2
      refine lv_aload_n hx hb dJ20_next_50 rfl (lv_at hl 2 rfl) ?_
      refine lv_iload_n hx hb dJ20_next_51 rfl (lv_at hl 1 rfl) ?_
      refine lv_iconst (v := 1) hx hb dJ20_next_52 (by decide) ?_
      refine lv_iadd hx hb dJ20_next_53 ?_
      refine lv_topi (fun f_3 ef_3 => ?_)
      replace hw := hw f_3 ef_3
      refine x_put (v := .int f_3) (ty := .int) C T tyJ20 tyJ20_ok nmJ20 0 rfl rfl 0 (by decide) in_J20 q1001 rfl (by decide +kernel) rfl rfl (Nat.le_of_ble_eq_true rfl) dJ20_next_54 (fun H locs T => ?_)
      replace T : xT E D (xTys d) A s H locs ([(aq, .inr (8, [.int f_3, .int la, .int ex, .ref ah]))]) := T
      refine lv_aload_n hx hb dJ20_next_57 rfl (lv_at hl 0 rfl) ?_
      refine lv_aload_n hx hb dJ20_next_58 rfl (lv_at hl 2 rfl) ?_
      refine lv_iload_n hx hb dJ20_next_59 rfl (lv_at hl 1 rfl) ?_
      refine lv_dup_x1 hx hb dJ20_next_60 rfl rfl ?_
      refine x_put (v := .int cu) (ty := .int) C T tyJ20 tyJ20_ok nmJ20 0 rfl rfl 1 (by decide) in_J20 q1002 rfl (by decide +kernel) rfl rfl (Nat.le_of_ble_eq_true rfl) dJ20_next_61 (fun H locs T => ?_)
      replace T : xT E D (xTys d) A s H locs ([(aq, .inr (8, [.int f_3, .int cu, .int ex, .ref ah]))]) := T
      refine x_aldq C T 3 (x_now T (b2 _ _ _ T.2.2.2.2)) rfl hw.1 rfl dJ20_next_64 ?_
      replace hw := hw.2
      refine x_topq (fun o_4 eo_4 => ?_)
      replace hw := hw o_4 eo_4
      exact x_qret (r := o_4) (u := (f_3, cu)) C (Or.inl ⟨_, rfl⟩) T hw (Nat.le_of_ble_eq_true rfl) (Nat.le_of_ble_eq_true rfl) dJ20_next_65
    · replace hw := hw.2 c_2
      exact hw.elim
  · replace hw := hw.2 c_1
    exact hw.elim
def wpX8_init (post : Int32 → Int32 → Prop) (xw : Int32) (xs : Int32) (p1 : Int32) (p2 : Int32) : Prop := (post p1 p2)
set_option maxHeartbeats 4000000 in
set_option maxRecDepth 100000 in
theorem mtX8_init (l : Launch) {κ : xK} {E : xEnv} (hE : xStable κ E) (D : va_G) (d : Nat → ClassId) (ax : Nat) (xw : Int32) (xs : Int32) (p1 : Int32) (p2 : Int32) (sz : Nat) (post : Int32 → Int32 → Prop) (hw : wpX8_init post xw xs p1 p2) : Met l yX8_init (ws_ yX8_init cX8_init 3 none) ({ frames := 1, cells := 0, slots := 0, locals := 26 } : Room) (xPc E D (xTys d) ([(ax, .inr (6, [.int xw, .int xs]))]) sz [.ref ax, .int p1, .int p2]) ((fun A : Nat → Prop => va_Qv (fun (u : Int32 × Int32) => post u.1 u.2) (xB D (xTys d) A (fun (u : Int32 × Int32) => [(ax, .inr (6, [.int u.1, .int u.2]))])) A) (va_A ([(ax, .inr (6, [.int xw, .int xs]))]) sz)) 0 0 (va_A ([(ax, .inr (6, [.int xw, .int xs]))]) sz) := by
  refine x_startI (QcA := fun A => va_Qv (fun (u : Int32 × Int32) => post u.1 u.2) (xB D (xTys d) A (fun (u : Int32 × Int32) => [(ax, .inr (6, [.int u.1, .int u.2]))])) A) hE (by decide) (Nat.le_of_ble_eq_true rfl) ?_
  intro p e s m below meth c A C H locs hsz T ls hl hin
  obtain ⟨hx, hb, hr, hlk, hml, hown, hts, hA⟩ := id C
  replace hl : lv_has ls 3 [(0, .ref ax), (1, .int p1), (2, .int p2)] := hl
  unfold wpX8_init at hw
  refine lv_aload_n hx hb dX8_init_0 rfl (lv_at hl 0 rfl) ?_
  refine W.objInit hx hb hown (hts _ q1197) (hts _ q136) (hts _ q137) rfl (hl.1.trans hml.symm) rfl dX8_init_1 (Nat.le_of_ble_eq_true rfl) (Nat.le_of_ble_eq_true rfl) ?_
  refine W.eq (g2 := F0 m 4 ls []) rfl ?_
  refine lv_aload_n hx hb dX8_init_4 rfl (lv_at hl 0 rfl) ?_
  refine lv_iload_n hx hb dX8_init_5 rfl (lv_at hl 1 rfl) ?_
  refine x_putF (v := .int p1) (ty := .int) C T tyX8 tyX8_ok nmX8 0 rfl rfl 0 (by decide) in_X8 q1198 rfl hin rfl (by decide +kernel) rfl rfl (Nat.le_of_ble_eq_true rfl) dX8_init_6 (fun H locs T => ?_)
  replace T : xT E D (xTys d) A s H locs ([(ax, .inr (6, [.int p1, .int xs]))]) := T
  refine lv_aload_n hx hb dX8_init_9 rfl (lv_at hl 0 rfl) ?_
  refine lv_iload_n hx hb dX8_init_10 rfl (lv_at hl 2 rfl) ?_
  refine x_putF (v := .int p2) (ty := .int) C T tyX8 tyX8_ok nmX8 0 rfl rfl 1 (by decide) in_X8 q1199 rfl hin rfl (by decide +kernel) rfl rfl (Nat.le_of_ble_eq_true rfl) dX8_init_11 (fun H locs T => ?_)
  replace T : xT E D (xTys d) A s H locs ([(ax, .inr (6, [.int p1, .int p2]))]) := T
  exact x_vret (u := (p1, p2)) C T hw (Nat.le_of_ble_eq_true rfl) (Nat.le_of_ble_eq_true rfl) dX8_init_14
def wpX8_way (post : Int32 → Prop) (xw : Int32) : Prop := (post xw)
set_option maxHeartbeats 4000000 in
set_option maxRecDepth 100000 in
theorem mtX8_way (l : Launch) {κ : xK} {E : xEnv} (hE : xStable κ E) (D : va_G) (d : Nat → ClassId) (ax : Nat) (xw : Int32) (xs : Int32) (b1 : ∀ (A : Nat → Prop) (U : State) (H : Heap), E A U H → xAt D (ax, .inr (6, [.int xw, .int xs])) A U H) (sz : Nat) (post : Int32 → Prop) (hw : wpX8_way post xw) : Met l yX8_way (ws_ yX8_way cX8_way 1 (some .int)) ({ frames := 1, cells := 0, slots := 0, locals := 0 } : Room) (xPc E D (xTys d) ([]) sz [.ref ax]) ((fun A : Nat → Prop => va_Qi (fun (r : Int32) (u : Unit) => post r) (xB D (xTys d) A (fun (u : Unit) => [])) A) (va_A ([]) sz)) 0 0 (va_A ([]) sz) := by
  refine x_start (QcA := fun A => va_Qi (fun (r : Int32) (u : Unit) => post r) (xB D (xTys d) A (fun (u : Unit) => [])) A) hE (by decide) (Nat.le_of_ble_eq_true rfl) ?_
  intro p e s m below meth c A C H locs hsz T ls hl
  obtain ⟨hx, hb, hr, hlk, hml, hown, hts, hA⟩ := id C
  replace hl : lv_has ls 1 [(0, .ref ax)] := hl
  unfold wpX8_way at hw
  refine lv_aload_n hx hb dX8_way_0 rfl (lv_at hl 0 rfl) ?_
  refine x_getA (v := .int xw) (ci := 6) C T (x_now T (b1 _ _ _ T.2.2.2.2)) rfl 0 (by decide) in_X8 q1198 rfl dX8_way_1 ?_
  exact x_iret (u := ()) C T hw (Nat.le_of_ble_eq_true rfl) (Nat.le_of_ble_eq_true rfl) dX8_way_4
def wpX8_strength (post : Int32 → Prop) (xs : Int32) : Prop := (post xs)
set_option maxHeartbeats 4000000 in
set_option maxRecDepth 100000 in
theorem mtX8_strength (l : Launch) {κ : xK} {E : xEnv} (hE : xStable κ E) (D : va_G) (d : Nat → ClassId) (ax : Nat) (xw : Int32) (xs : Int32) (b1 : ∀ (A : Nat → Prop) (U : State) (H : Heap), E A U H → xAt D (ax, .inr (6, [.int xw, .int xs])) A U H) (sz : Nat) (post : Int32 → Prop) (hw : wpX8_strength post xs) : Met l yX8_strength (ws_ yX8_strength cX8_strength 1 (some .int)) ({ frames := 1, cells := 0, slots := 0, locals := 0 } : Room) (xPc E D (xTys d) ([]) sz [.ref ax]) ((fun A : Nat → Prop => va_Qi (fun (r : Int32) (u : Unit) => post r) (xB D (xTys d) A (fun (u : Unit) => [])) A) (va_A ([]) sz)) 0 0 (va_A ([]) sz) := by
  refine x_start (QcA := fun A => va_Qi (fun (r : Int32) (u : Unit) => post r) (xB D (xTys d) A (fun (u : Unit) => [])) A) hE (by decide) (Nat.le_of_ble_eq_true rfl) ?_
  intro p e s m below meth c A C H locs hsz T ls hl
  obtain ⟨hx, hb, hr, hlk, hml, hown, hts, hA⟩ := id C
  replace hl : lv_has ls 1 [(0, .ref ax)] := hl
  unfold wpX8_strength at hw
  refine lv_aload_n hx hb dX8_strength_0 rfl (lv_at hl 0 rfl) ?_
  refine x_getA (v := .int xs) (ci := 6) C T (x_now T (b1 _ _ _ T.2.2.2.2)) rfl 1 (by decide) in_X8 q1199 rfl dX8_strength_1 ?_
  exact x_iret (u := ()) C T hw (Nat.le_of_ble_eq_true rfl) (Nat.le_of_ble_eq_true rfl) dX8_strength_4
def wpX6_init (post : Int32 → Int32 → Prop) (xw : Int32) (xs : Int32) (p1 : Int32) (p2 : Int32) : Prop := (post p1 p2)
set_option maxHeartbeats 4000000 in
set_option maxRecDepth 100000 in
theorem mtX6_init (l : Launch) {κ : xK} {E : xEnv} (hE : xStable κ E) (D : va_G) (d : Nat → ClassId) (ax : Nat) (xw : Int32) (xs : Int32) (p1 : Int32) (p2 : Int32) (sz : Nat) (post : Int32 → Int32 → Prop) (hw : wpX6_init post xw xs p1 p2) : Met l yX6_init (ws_ yX6_init cX6_init 3 none) ({ frames := 1, cells := 0, slots := 0, locals := 26 } : Room) (xPc E D (xTys d) ([(ax, .inr (5, [.int xw, .int xs]))]) sz [.ref ax, .int p1, .int p2]) ((fun A : Nat → Prop => va_Qv (fun (u : Int32 × Int32) => post u.1 u.2) (xB D (xTys d) A (fun (u : Int32 × Int32) => [(ax, .inr (5, [.int u.1, .int u.2]))])) A) (va_A ([(ax, .inr (5, [.int xw, .int xs]))]) sz)) 0 0 (va_A ([(ax, .inr (5, [.int xw, .int xs]))]) sz) := by
  refine x_startI (QcA := fun A => va_Qv (fun (u : Int32 × Int32) => post u.1 u.2) (xB D (xTys d) A (fun (u : Int32 × Int32) => [(ax, .inr (5, [.int u.1, .int u.2]))])) A) hE (by decide) (Nat.le_of_ble_eq_true rfl) ?_
  intro p e s m below meth c A C H locs hsz T ls hl hin
  obtain ⟨hx, hb, hr, hlk, hml, hown, hts, hA⟩ := id C
  replace hl : lv_has ls 3 [(0, .ref ax), (1, .int p1), (2, .int p2)] := hl
  unfold wpX6_init at hw
  refine lv_aload_n hx hb dX6_init_0 rfl (lv_at hl 0 rfl) ?_
  refine W.objInit hx hb hown (hts _ q1042) (hts _ q136) (hts _ q137) rfl (hl.1.trans hml.symm) rfl dX6_init_1 (Nat.le_of_ble_eq_true rfl) (Nat.le_of_ble_eq_true rfl) ?_
  refine W.eq (g2 := F0 m 4 ls []) rfl ?_
  refine lv_aload_n hx hb dX6_init_4 rfl (lv_at hl 0 rfl) ?_
  refine lv_iload_n hx hb dX6_init_5 rfl (lv_at hl 1 rfl) ?_
  refine x_putF (v := .int p1) (ty := .int) C T tyX6 tyX6_ok nmX6 0 rfl rfl 0 (by decide) in_X6 q1043 rfl hin rfl (by decide +kernel) rfl rfl (Nat.le_of_ble_eq_true rfl) dX6_init_6 (fun H locs T => ?_)
  replace T : xT E D (xTys d) A s H locs ([(ax, .inr (5, [.int p1, .int xs]))]) := T
  refine lv_aload_n hx hb dX6_init_9 rfl (lv_at hl 0 rfl) ?_
  refine lv_iload_n hx hb dX6_init_10 rfl (lv_at hl 2 rfl) ?_
  refine x_putF (v := .int p2) (ty := .int) C T tyX6 tyX6_ok nmX6 0 rfl rfl 1 (by decide) in_X6 q1047 rfl hin rfl (by decide +kernel) rfl rfl (Nat.le_of_ble_eq_true rfl) dX6_init_11 (fun H locs T => ?_)
  replace T : xT E D (xTys d) A s H locs ([(ax, .inr (5, [.int p1, .int p2]))]) := T
  exact x_vret (u := (p1, p2)) C T hw (Nat.le_of_ble_eq_true rfl) (Nat.le_of_ble_eq_true rfl) dX6_init_14
def wpX7_isHeard (post : Bool → Prop) (xw : Int32) (xs : Int32) (p1 : Int32) : Prop := (wpX8_strength (fun r_1 => ((r_1 < p1 → (post false)) ∧ (¬ r_1 < p1 → (post true)))) xs)
set_option maxHeartbeats 4000000 in
set_option maxRecDepth 100000 in
theorem mtX7_isHeard (l : Launch) {κ : xK} {E : xEnv} (hE : xStable κ E) (D : va_G) (d : Nat → ClassId) (ax : Nat) (xw : Int32) (xs : Int32) (p1 : Int32) (b1 : ∀ (A : Nat → Prop) (U : State) (H : Heap), E A U H → xAt D (ax, .inr (6, [.int xw, .int xs])) A U H) (sz : Nat) (post : Bool → Prop) (hw : wpX7_isHeard post xw xs p1) : Met l yX7_isHeard (ws_ yX7_isHeard cX7_isHeard 2 (some .boolean)) ({ frames := 2, cells := 0, slots := 0, locals := 20 } : Room) (xPc E D (xTys d) ([]) sz [.ref ax, .int p1]) ((fun A : Nat → Prop => va_Qi (fun (r : Int32) (u : Unit) => ∃ b : Bool, r = bI b ∧ post b) (xB D (xTys d) A (fun (u : Unit) => [])) A) (va_A ([]) sz)) 0 0 (va_A ([]) sz) := by
  refine x_start (QcA := fun A => va_Qi (fun (r : Int32) (u : Unit) => ∃ b : Bool, r = bI b ∧ post b) (xB D (xTys d) A (fun (u : Unit) => [])) A) hE (by decide) (Nat.le_of_ble_eq_true rfl) ?_
  intro p e s m below meth c A C H locs hsz T ls hl
  obtain ⟨hx, hb, hr, hlk, hml, hown, hts, hA⟩ := id C
  replace hl : lv_has ls 2 [(0, .ref ax), (1, .int p1)] := hl
  unfold wpX7_isHeard at hw
  refine lv_aload_n hx hb dX7_isHeard_0 rfl (lv_at hl 0 rfl) ?_
  refine x_kFi (X := []) (pl := []) (wc := []) (wr := []) C T [] [] rfl rfl rfl (by decide) rfl (x_rF (As := []) (rest := []) C T (ci := 6) rfl (x_preq (xAnd_stable hE (xAt_moves D (ax, .inr (6, [.int xw, .int xs])))) T [] rfl rfl (fun U hU hW => ⟨(x_envT (X := []) (pl := []) hE C T [] rfl U hU hW), (b1 _ _ _ (x_envT (X := []) (pl := []) hE C T [] rfl U hU hW))⟩) _) (mtX8_strength l (xAnd_stable hE (xAt_moves D (ax, .inr (6, [.int xw, .int xs])))) D d ax xw xs (fun A U H h => h.2) H.size _ hw) (va_cwF 0 hts (lw_F q1219 q1222 q1224 q128 q1226) rfl rfl rfl (x_face hE T (by decide) q1221 q1220 q1225 q1223 q1213) (by decide +kernel) ⟨Nat.le_of_ble_eq_true rfl, Nat.le_of_ble_eq_true rfl⟩) (x_recvA T (ci := 6) rfl (x_now T (b1 _ _ _ T.2.2.2.2))) rfl hl.1 (lv_room (Nat.le_of_ble_eq_true rfl)) dX7_isHeard_1 ⟨(Nat.le_of_ble_eq_true rfl), (Nat.le_of_ble_eq_true rfl)⟩) (fun r u H locs hw T => ?_)
  obtain ⟨r_1, rfl⟩ : ∃ z, z = r := ⟨_, rfl⟩
  replace T : xT E D (xTys d) A s H locs ([]) := T
  refine lv_iload_n hx hb dX7_isHeard_6 rfl (lv_at hl 1 rfl) ?_
  refine lv_icmp_lt (tgt := 14) hx hb dX7_isHeard_7 (by decide) (fun c_2 => ?_) (fun c_2 => ?_)
  · replace hw := hw.1 c_2
    refine lv_iconst (v := 0) hx hb dX7_isHeard_14 (by decide) ?_
    exact x_zret (b := false) (u := ()) C T rfl hw (Nat.le_of_ble_eq_true rfl) (Nat.le_of_ble_eq_true rfl) dX7_isHeard_15
  · replace hw := hw.2 c_2
    refine lv_iconst (v := 1) hx hb dX7_isHeard_10 (by decide) ?_
    refine lv_goto (tgt := 15) hx hb dX7_isHeard_11 (by decide) ?_
    exact x_zret (b := true) (u := ()) C T rfl hw (Nat.le_of_ble_eq_true rfl) (Nat.le_of_ble_eq_true rfl) dX7_isHeard_15
def wpX7_isStronger (post : Bool → Prop) (xw : Int32) (xs : Int32) (yw : Int32) (ys : Int32) : Prop := (wpX8_strength (fun r_1 => (wpX8_strength (fun r_2 => ((r_2 < r_1 → (post true)) ∧ (¬ r_2 < r_1 → (wpX8_strength (fun r_4 => (wpX8_strength (fun r_5 => ((r_4 = r_5 → (wpX8_way (fun r_7 => (wpX8_way (fun r_8 => ((r_8 ≤ r_7 → (post false)) ∧ (¬ r_8 ≤ r_7 → (post true)))) yw)) xw)) ∧ (¬ r_4 = r_5 → (post false)))) ys)) xs)))) ys)) xs)
set_option maxHeartbeats 4000000 in
set_option maxRecDepth 100000 in
theorem mtX7_isStronger (l : Launch) {κ : xK} {E : xEnv} (hE : xStable κ E) (D : va_G) (d : Nat → ClassId) (ax ay : Nat) (xw : Int32) (xs : Int32) (yw : Int32) (ys : Int32) (b1 : ∀ (A : Nat → Prop) (U : State) (H : Heap), E A U H → xAt D (ax, .inr (6, [.int xw, .int xs])) A U H) (b2 : ∀ (A : Nat → Prop) (U : State) (H : Heap), E A U H → xAt D (ay, .inr (6, [.int yw, .int ys])) A U H) (sz : Nat) (post : Bool → Prop) (hw : wpX7_isStronger post xw xs yw ys) : Met l yX7_isStronger (ws_ yX7_isStronger cX7_isStronger 2 (some .boolean)) ({ frames := 2, cells := 0, slots := 0, locals := 20 } : Room) (xPc E D (xTys d) ([]) sz [.ref ax, .ref ay]) ((fun A : Nat → Prop => va_Qi (fun (r : Int32) (u : Unit) => ∃ b : Bool, r = bI b ∧ post b) (xB D (xTys d) A (fun (u : Unit) => [])) A) (va_A ([]) sz)) 0 0 (va_A ([]) sz) := by
  refine x_start (QcA := fun A => va_Qi (fun (r : Int32) (u : Unit) => ∃ b : Bool, r = bI b ∧ post b) (xB D (xTys d) A (fun (u : Unit) => [])) A) hE (by decide) (Nat.le_of_ble_eq_true rfl) ?_
  intro p e s m below meth c A C H locs hsz T ls hl
  obtain ⟨hx, hb, hr, hlk, hml, hown, hts, hA⟩ := id C
  replace hl : lv_has ls 2 [(0, .ref ax), (1, .ref ay)] := hl
  unfold wpX7_isStronger at hw
  refine lv_aload_n hx hb dX7_isStronger_0 rfl (lv_at hl 0 rfl) ?_
  refine x_kFi (X := []) (pl := []) (wc := []) (wr := []) C T [] [] rfl rfl rfl (by decide) rfl (x_rF (As := []) (rest := []) C T (ci := 6) rfl (x_preq (xAnd_stable hE (xAt_moves D (ax, .inr (6, [.int xw, .int xs])))) T [] rfl rfl (fun U hU hW => ⟨(x_envT (X := []) (pl := []) hE C T [] rfl U hU hW), (b1 _ _ _ (x_envT (X := []) (pl := []) hE C T [] rfl U hU hW))⟩) _) (mtX8_strength l (xAnd_stable hE (xAt_moves D (ax, .inr (6, [.int xw, .int xs])))) D d ax xw xs (fun A U H h => h.2) H.size _ hw) (va_cwF 0 hts (lw_F q1219 q1222 q1224 q128 q1226) rfl rfl rfl (x_face hE T (by decide) q1221 q1220 q1225 q1223 q1213) (by decide +kernel) ⟨Nat.le_of_ble_eq_true rfl, Nat.le_of_ble_eq_true rfl⟩) (x_recvA T (ci := 6) rfl (x_now T (b1 _ _ _ T.2.2.2.2))) rfl hl.1 (lv_room (Nat.le_of_ble_eq_true rfl)) dX7_isStronger_1 ⟨(Nat.le_of_ble_eq_true rfl), (Nat.le_of_ble_eq_true rfl)⟩) (fun r u H locs hw T => ?_)
  obtain ⟨r_1, rfl⟩ : ∃ z, z = r := ⟨_, rfl⟩
  replace T : xT E D (xTys d) A s H locs ([]) := T
  refine lv_aload_n hx hb dX7_isStronger_6 rfl (lv_at hl 1 rfl) ?_
  refine x_kFi (X := []) (pl := []) (wc := []) (wr := []) C T [] [] rfl rfl rfl (by decide) rfl (x_rF (As := []) (rest := [.int r_1]) C T (ci := 6) rfl (x_preq (xAnd_stable hE (xAt_moves D (ay, .inr (6, [.int yw, .int ys])))) T [] rfl rfl (fun U hU hW => ⟨(x_envT (X := []) (pl := []) hE C T [] rfl U hU hW), (b2 _ _ _ (x_envT (X := []) (pl := []) hE C T [] rfl U hU hW))⟩) _) (mtX8_strength l (xAnd_stable hE (xAt_moves D (ay, .inr (6, [.int yw, .int ys])))) D d ay yw ys (fun A U H h => h.2) H.size _ hw) (va_cwF 0 hts (lw_F q1219 q1222 q1224 q128 q1226) rfl rfl rfl (x_face hE T (by decide) q1221 q1220 q1225 q1223 q1213) (by decide +kernel) ⟨Nat.le_of_ble_eq_true rfl, Nat.le_of_ble_eq_true rfl⟩) (x_recvA T (ci := 6) rfl (x_now T (b2 _ _ _ T.2.2.2.2))) rfl hl.1 (lv_room (Nat.le_of_ble_eq_true rfl)) dX7_isStronger_7 ⟨(Nat.le_of_ble_eq_true rfl), (Nat.le_of_ble_eq_true rfl)⟩) (fun r u H locs hw T => ?_)
  obtain ⟨r_2, rfl⟩ : ∃ z, z = r := ⟨_, rfl⟩
  replace T : xT E D (xTys d) A s H locs ([]) := T
  refine lv_icmp_gt (tgt := 45) hx hb dX7_isStronger_12 (by decide) (fun c_3 => ?_) (fun c_3 => ?_)
  · replace hw := hw.1 c_3
    refine lv_iconst (v := 1) hx hb dX7_isStronger_45 (by decide) ?_
    refine lv_goto (tgt := 50) hx hb dX7_isStronger_46 (by decide) ?_
    exact x_zret (b := true) (u := ()) C T rfl hw (Nat.le_of_ble_eq_true rfl) (Nat.le_of_ble_eq_true rfl) dX7_isStronger_50
  · replace hw := hw.2 c_3
    refine lv_aload_n hx hb dX7_isStronger_15 rfl (lv_at hl 0 rfl) ?_
    refine x_kFi (X := []) (pl := []) (wc := []) (wr := []) C T [] [] rfl rfl rfl (by decide) rfl (x_rF (As := []) (rest := []) C T (ci := 6) rfl (x_preq (xAnd_stable hE (xAt_moves D (ax, .inr (6, [.int xw, .int xs])))) T [] rfl rfl (fun U hU hW => ⟨(x_envT (X := []) (pl := []) hE C T [] rfl U hU hW), (b1 _ _ _ (x_envT (X := []) (pl := []) hE C T [] rfl U hU hW))⟩) _) (mtX8_strength l (xAnd_stable hE (xAt_moves D (ax, .inr (6, [.int xw, .int xs])))) D d ax xw xs (fun A U H h => h.2) H.size _ hw) (va_cwF 0 hts (lw_F q1219 q1222 q1224 q128 q1226) rfl rfl rfl (x_face hE T (by decide) q1221 q1220 q1225 q1223 q1213) (by decide +kernel) ⟨Nat.le_of_ble_eq_true rfl, Nat.le_of_ble_eq_true rfl⟩) (x_recvA T (ci := 6) rfl (x_now T (b1 _ _ _ T.2.2.2.2))) rfl hl.1 (lv_room (Nat.le_of_ble_eq_true rfl)) dX7_isStronger_16 ⟨(Nat.le_of_ble_eq_true rfl), (Nat.le_of_ble_eq_true rfl)⟩) (fun r u H locs hw T => ?_)
    obtain ⟨r_4, rfl⟩ : ∃ z, z = r := ⟨_, rfl⟩
    replace T : xT E D (xTys d) A s H locs ([]) := T
    refine lv_aload_n hx hb dX7_isStronger_21 rfl (lv_at hl 1 rfl) ?_
    refine x_kFi (X := []) (pl := []) (wc := []) (wr := []) C T [] [] rfl rfl rfl (by decide) rfl (x_rF (As := []) (rest := [.int r_4]) C T (ci := 6) rfl (x_preq (xAnd_stable hE (xAt_moves D (ay, .inr (6, [.int yw, .int ys])))) T [] rfl rfl (fun U hU hW => ⟨(x_envT (X := []) (pl := []) hE C T [] rfl U hU hW), (b2 _ _ _ (x_envT (X := []) (pl := []) hE C T [] rfl U hU hW))⟩) _) (mtX8_strength l (xAnd_stable hE (xAt_moves D (ay, .inr (6, [.int yw, .int ys])))) D d ay yw ys (fun A U H h => h.2) H.size _ hw) (va_cwF 0 hts (lw_F q1219 q1222 q1224 q128 q1226) rfl rfl rfl (x_face hE T (by decide) q1221 q1220 q1225 q1223 q1213) (by decide +kernel) ⟨Nat.le_of_ble_eq_true rfl, Nat.le_of_ble_eq_true rfl⟩) (x_recvA T (ci := 6) rfl (x_now T (b2 _ _ _ T.2.2.2.2))) rfl hl.1 (lv_room (Nat.le_of_ble_eq_true rfl)) dX7_isStronger_22 ⟨(Nat.le_of_ble_eq_true rfl), (Nat.le_of_ble_eq_true rfl)⟩) (fun r u H locs hw T => ?_)
    obtain ⟨r_5, rfl⟩ : ∃ z, z = r := ⟨_, rfl⟩
    replace T : xT E D (xTys d) A s H locs ([]) := T
    refine lv_icmp_ne (tgt := 49) hx hb dX7_isStronger_27 (by decide) (fun c_6 => ?_) (fun c_6 => ?_)
    · replace hw := hw.2 c_6
      refine lv_iconst (v := 0) hx hb dX7_isStronger_49 (by decide) ?_
      exact x_zret (b := false) (u := ()) C T rfl hw (Nat.le_of_ble_eq_true rfl) (Nat.le_of_ble_eq_true rfl) dX7_isStronger_50
    · replace hw := hw.1 c_6
      refine lv_aload_n hx hb dX7_isStronger_30 rfl (lv_at hl 0 rfl) ?_
      refine x_kFi (X := []) (pl := []) (wc := []) (wr := []) C T [] [] rfl rfl rfl (by decide) rfl (x_rF (As := []) (rest := []) C T (ci := 6) rfl (x_preq (xAnd_stable hE (xAt_moves D (ax, .inr (6, [.int xw, .int xs])))) T [] rfl rfl (fun U hU hW => ⟨(x_envT (X := []) (pl := []) hE C T [] rfl U hU hW), (b1 _ _ _ (x_envT (X := []) (pl := []) hE C T [] rfl U hU hW))⟩) _) (mtX8_way l (xAnd_stable hE (xAt_moves D (ax, .inr (6, [.int xw, .int xs])))) D d ax xw xs (fun A U H h => h.2) H.size _ hw) (va_cwF 0 hts (lw_F q1264 q1250 q1252 q128 q1254) rfl rfl rfl (x_face hE T (by decide) q1249 q1248 q1253 q1251 q1213) (by decide +kernel) ⟨Nat.le_of_ble_eq_true rfl, Nat.le_of_ble_eq_true rfl⟩) (x_recvA T (ci := 6) rfl (x_now T (b1 _ _ _ T.2.2.2.2))) rfl hl.1 (lv_room (Nat.le_of_ble_eq_true rfl)) dX7_isStronger_31 ⟨(Nat.le_of_ble_eq_true rfl), (Nat.le_of_ble_eq_true rfl)⟩) (fun r u H locs hw T => ?_)
      obtain ⟨r_7, rfl⟩ : ∃ z, z = r := ⟨_, rfl⟩
      replace T : xT E D (xTys d) A s H locs ([]) := T
      refine lv_aload_n hx hb dX7_isStronger_36 rfl (lv_at hl 1 rfl) ?_
      refine x_kFi (X := []) (pl := []) (wc := []) (wr := []) C T [] [] rfl rfl rfl (by decide) rfl (x_rF (As := []) (rest := [.int r_7]) C T (ci := 6) rfl (x_preq (xAnd_stable hE (xAt_moves D (ay, .inr (6, [.int yw, .int ys])))) T [] rfl rfl (fun U hU hW => ⟨(x_envT (X := []) (pl := []) hE C T [] rfl U hU hW), (b2 _ _ _ (x_envT (X := []) (pl := []) hE C T [] rfl U hU hW))⟩) _) (mtX8_way l (xAnd_stable hE (xAt_moves D (ay, .inr (6, [.int yw, .int ys])))) D d ay yw ys (fun A U H h => h.2) H.size _ hw) (va_cwF 0 hts (lw_F q1264 q1250 q1252 q128 q1254) rfl rfl rfl (x_face hE T (by decide) q1249 q1248 q1253 q1251 q1213) (by decide +kernel) ⟨Nat.le_of_ble_eq_true rfl, Nat.le_of_ble_eq_true rfl⟩) (x_recvA T (ci := 6) rfl (x_now T (b2 _ _ _ T.2.2.2.2))) rfl hl.1 (lv_room (Nat.le_of_ble_eq_true rfl)) dX7_isStronger_37 ⟨(Nat.le_of_ble_eq_true rfl), (Nat.le_of_ble_eq_true rfl)⟩) (fun r u H locs hw T => ?_)
      obtain ⟨r_8, rfl⟩ : ∃ z, z = r := ⟨_, rfl⟩
      replace T : xT E D (xTys d) A s H locs ([]) := T
      refine lv_icmp_ge (tgt := 49) hx hb dX7_isStronger_42 (by decide) (fun c_9 => ?_) (fun c_9 => ?_)
      · replace hw := hw.1 c_9
        refine lv_iconst (v := 0) hx hb dX7_isStronger_49 (by decide) ?_
        exact x_zret (b := false) (u := ()) C T rfl hw (Nat.le_of_ble_eq_true rfl) (Nat.le_of_ble_eq_true rfl) dX7_isStronger_50
      · replace hw := hw.2 c_9
        refine lv_iconst (v := 1) hx hb dX7_isStronger_45 (by decide) ?_
        refine lv_goto (tgt := 50) hx hb dX7_isStronger_46 (by decide) ?_
        exact x_zret (b := true) (u := ()) C T rfl hw (Nat.le_of_ble_eq_true rfl) (Nat.le_of_ble_eq_true rfl) dX7_isStronger_50
def wpX7_of (post : Int32 → Int32 → Prop) (p0 : Int32) (p1 : Int32) : Prop := (∀ q_1 : Nat, (wpX8_init (fun xw_2 xs_3 => (post xw_2 xs_3)) 0 0 p0 p1))
set_option maxHeartbeats 4000000 in
set_option maxRecDepth 100000 in
theorem mtX7_of (l : Launch) {κ : xK} {E : xEnv} (hE : xStable κ E) (D : va_G) (d : Nat → ClassId) (p0 : Int32) (p1 : Int32) (sz : Nat) (post : Int32 → Int32 → Prop) (hw : wpX7_of post p0 p1) : Met l yX7_of (ws_ yX7_of cX7_of 2 (some (.object "PingEye$Echo"))) ({ frames := 2, cells := 1, slots := 2, locals := 48 } : Room) (xPc E D (xTys d) ([]) sz [.int p0, .int p1]) ((fun A : Nat → Prop => va_Qr (fun (u : Int32 × Int32) => post u.1 u.2) (xBr D (xTys d) A (fun (u : Int32 × Int32) (ra : Nat) => [(ra, .inr (6, [.int u.1, .int u.2]))])) A) (va_A ([]) sz)) 1 2 (va_A ([]) sz) := by
  refine x_start (QcA := fun A => va_Qr (fun (u : Int32 × Int32) => post u.1 u.2) (xBr D (xTys d) A (fun (u : Int32 × Int32) (ra : Nat) => [(ra, .inr (6, [.int u.1, .int u.2]))])) A) hE (by decide) (Nat.le_of_ble_eq_true rfl) ?_
  intro p e s m below meth c A C H locs hsz T ls hl
  obtain ⟨hx, hb, hr, hlk, hml, hown, hts, hA⟩ := id C
  replace hl : lv_has ls 2 [(0, .int p0), (1, .int p1)] := hl
  unfold wpX7_of at hw
  refine x_new (ci := 6) (fs := [.int 0, .int 0]) C T tyX8 tyX8_ok in_X8 q1192 q1193 q128 rfl (by decide) (Nat.le_of_ble_eq_true rfl) (Nat.le_of_ble_eq_true rfl) dX7_of_0 (fun q_1 H T => ?_)
  replace hw := hw q_1
  replace T : xT E D (xTys d) A s H locs ([(q_1, .inr (6, [.int 0, .int 0]))]) := T
  refine lv_dup hx hb dX7_of_3 rfl ?_
  refine lv_iload_n hx hb dX7_of_4 rfl (lv_at hl 0 rfl) ?_
  refine lv_iload_n hx hb dX7_of_5 rfl (lv_at hl 1 rfl) ?_
  refine x_kv (X := [(q_1, .inr (6, [.int 0, .int 0]))]) (pl := []) (wc := [(q_1, .inr (6, [.int 0, .int 0]))]) (wr := []) C T [0] [] rfl rfl rfl (by decide) rfl (x_rI (As := [.int p0, .int p1]) (rest := [.ref q_1]) C (x_preq hE T [0] rfl rfl (fun U hU hW => (x_envT (X := [(q_1, .inr (6, [.int 0, .int 0]))]) (pl := []) hE C T [0] rfl U hU hW)) _) (mtX8_init l hE D d q_1 0 0 p0 p1 H.size _ hw) (cwI 2 hts (lw_meth q1196) rfl rfl rfl (hts _ q128) (hts _ q1194) (hts _ q1195) rfl (by decide +kernel) ⟨Nat.le_of_ble_eq_true rfl, Nat.le_of_ble_eq_true rfl⟩) rfl hl.1 (lv_room (Nat.le_of_ble_eq_true rfl)) dX7_of_6 ⟨(Nat.le_of_ble_eq_true rfl), (Nat.le_of_ble_eq_true rfl)⟩) (fun u H locs hw T => ?_)
  obtain ⟨xw_2, xs_3⟩ := u
  replace T : xT E D (xTys d) A s H locs ([(q_1, .inr (6, [.int xw_2, .int xs_3]))]) := T
  exact x_rret (ra := q_1) (u := (xw_2, xs_3)) C (Or.inl ⟨_, rfl⟩) T hw (Nat.le_of_ble_eq_true rfl) (Nat.le_of_ble_eq_true rfl) dX7_of_9
