/-! the silo: fixed world -/
set_option maxRecDepth 100000
def wpX1_in (post : Bool → Prop) (p0 : Int32) (p1 : Int32) (p2 : Int32) : Prop := ((p0 < p1 → (post false)) ∧ (¬ p0 < p1 → ((p2 < p0 → (post false)) ∧ (¬ p2 < p0 → (post true)))))
set_option maxHeartbeats 4000000 in
set_option maxRecDepth 100000 in
theorem mtX1_in (l : Launch) {κ : xK} {E : xEnv} (hE : xStable κ E) (D : va_G) (d : Nat → ClassId) (p0 : Int32) (p1 : Int32) (p2 : Int32) (sz : Nat) (post : Bool → Prop) (hw : wpX1_in post p0 p1 p2) : Met l yX1_in (ws_ yX1_in cX1_in 3 (some .boolean)) ({ frames := 1, cells := 0, slots := 0, locals := 0 } : Room) (xPc E D (xTys d) ([]) sz [.int p0, .int p1, .int p2]) ((fun A : Nat → Prop => va_Qi (fun (r : Int32) (u : Unit) => ∃ b : Bool, r = bI b ∧ post b) (xB D (xTys d) A (fun (u : Unit) => [])) A) (va_A ([]) sz)) 0 0 (va_A ([]) sz) := by
  refine x_start (QcA := fun A => va_Qi (fun (r : Int32) (u : Unit) => ∃ b : Bool, r = bI b ∧ post b) (xB D (xTys d) A (fun (u : Unit) => [])) A) hE (by decide) (Nat.le_of_ble_eq_true rfl) ?_
  intro p e s m below meth c A C H locs hsz T ls hl
  obtain ⟨hx, hb, hr, hlk, hml, hown, hts, hA⟩ := id C
  replace hl : lv_has ls 3 [(0, .int p0), (1, .int p1), (2, .int p2)] := hl
  unfold wpX1_in at hw
  refine lv_iload_n hx hb dX1_in_0 rfl (lv_at hl 1 rfl) ?_
  refine lv_iload_n hx hb dX1_in_1 rfl (lv_at hl 0 rfl) ?_
  refine lv_icmp_gt (tgt := 14) hx hb dX1_in_2 (by decide) (fun c_1 => ?_) (fun c_1 => ?_)
  · replace hw := hw.1 c_1
    refine lv_iconst (v := 0) hx hb dX1_in_14 (by decide) ?_
    exact x_zret (b := false) (u := ()) C T rfl hw (Nat.le_of_ble_eq_true rfl) (Nat.le_of_ble_eq_true rfl) dX1_in_15
  · replace hw := hw.2 c_1
    refine lv_iload_n hx hb dX1_in_5 rfl (lv_at hl 0 rfl) ?_
    refine lv_iload_n hx hb dX1_in_6 rfl (lv_at hl 2 rfl) ?_
    refine lv_icmp_gt (tgt := 14) hx hb dX1_in_7 (by decide) (fun c_2 => ?_) (fun c_2 => ?_)
    · replace hw := hw.1 c_2
      refine lv_iconst (v := 0) hx hb dX1_in_14 (by decide) ?_
      exact x_zret (b := false) (u := ()) C T rfl hw (Nat.le_of_ble_eq_true rfl) (Nat.le_of_ble_eq_true rfl) dX1_in_15
    · replace hw := hw.2 c_2
      refine lv_iconst (v := 1) hx hb dX1_in_10 (by decide) ?_
      refine lv_goto (tgt := 15) hx hb dX1_in_11 (by decide) ?_
      exact x_zret (b := true) (u := ()) C T rfl hw (Nat.le_of_ble_eq_true rfl) (Nat.le_of_ble_eq_true rfl) dX1_in_15
def wpX1_one (post : Int32 → Prop) (p0 : Int32) : Prop := ((p0 = 0 → (post 0)) ∧ (¬ p0 = 0 → (post 1)))
set_option maxHeartbeats 4000000 in
set_option maxRecDepth 100000 in
theorem mtX1_one (l : Launch) {κ : xK} {E : xEnv} (hE : xStable κ E) (D : va_G) (d : Nat → ClassId) (p0 : Int32) (sz : Nat) (post : Int32 → Prop) (hw : wpX1_one post p0) : Met l yX1_one (ws_ yX1_one cX1_one 1 (some .int)) ({ frames := 1, cells := 0, slots := 0, locals := 0 } : Room) (xPc E D (xTys d) ([]) sz [.int p0]) ((fun A : Nat → Prop => va_Qi (fun (r : Int32) (u : Unit) => post r) (xB D (xTys d) A (fun (u : Unit) => [])) A) (va_A ([]) sz)) 0 0 (va_A ([]) sz) := by
  refine x_start (QcA := fun A => va_Qi (fun (r : Int32) (u : Unit) => post r) (xB D (xTys d) A (fun (u : Unit) => [])) A) hE (by decide) (Nat.le_of_ble_eq_true rfl) ?_
  intro p e s m below meth c A C H locs hsz T ls hl
  obtain ⟨hx, hb, hr, hlk, hml, hown, hts, hA⟩ := id C
  replace hl : lv_has ls 1 [(0, .int p0)] := hl
  unfold wpX1_one at hw
  refine lv_iload_n hx hb dX1_one_0 rfl (lv_at hl 0 rfl) ?_
  refine lv_if_eq (tgt := 8) hx hb dX1_one_1 (by decide) (fun c_1 => ?_) (fun c_1 => ?_)
  · replace hw := hw.1 c_1
    refine lv_iconst (v := 0) hx hb dX1_one_8 (by decide) ?_
    exact x_iret (u := ()) C T hw (Nat.le_of_ble_eq_true rfl) (Nat.le_of_ble_eq_true rfl) dX1_one_9
  · replace hw := hw.2 c_1
    refine lv_iconst (v := 1) hx hb dX1_one_4 (by decide) ?_
    refine lv_goto (tgt := 9) hx hb dX1_one_5 (by decide) ?_
    exact x_iret (u := ()) C T hw (Nat.le_of_ble_eq_true rfl) (Nat.le_of_ble_eq_true rfl) dX1_one_9
def wpX1_least (post : Int32 → Prop) (p0 : Int32) : Prop := ((p0 = 0 → (post 3)) ∧ (¬ p0 = 0 → ((p0 = 1 → (post 5)) ∧ (¬ p0 = 1 → ((p0 = 2 → (post 1)) ∧ (¬ p0 = 2 → ((p0 = 5 → (post 1)) ∧ (¬ p0 = 5 → ((p0 = 6 → (post 1)) ∧ (¬ p0 = 6 → ((p0 = 8 → (post 1)) ∧ (¬ p0 = 8 → (post 0)))))))))))))
set_option maxHeartbeats 4000000 in
set_option maxRecDepth 100000 in
theorem mtX1_least (l : Launch) {κ : xK} {E : xEnv} (hE : xStable κ E) (D : va_G) (d : Nat → ClassId) (p0 : Int32) (sz : Nat) (post : Int32 → Prop) (hw : wpX1_least post p0) : Met l yX1_least (ws_ yX1_least cX1_least 1 (some .int)) ({ frames := 1, cells := 0, slots := 0, locals := 0 } : Room) (xPc E D (xTys d) ([]) sz [.int p0]) ((fun A : Nat → Prop => va_Qi (fun (r : Int32) (u : Unit) => post r) (xB D (xTys d) A (fun (u : Unit) => [])) A) (va_A ([]) sz)) 0 0 (va_A ([]) sz) := by
  refine x_start (QcA := fun A => va_Qi (fun (r : Int32) (u : Unit) => post r) (xB D (xTys d) A (fun (u : Unit) => [])) A) hE (by decide) (Nat.le_of_ble_eq_true rfl) ?_
  intro p e s m below meth c A C H locs hsz T ls hl
  obtain ⟨hx, hb, hr, hlk, hml, hown, hts, hA⟩ := id C
  replace hl : lv_has ls 1 [(0, .int p0)] := hl
  unfold wpX1_least at hw
  refine lv_iload_n hx hb dX1_least_0 rfl (lv_at hl 0 rfl) ?_
  rcases Decidable.em (p0 = 0) with c_1 | c_1
  · replace hw := hw.1 c_1
    refine lv_tableIn (off := 51) (tgt := 52) hx hb dX1_least_1 (by rw [c_1]; decide) (by rw [c_1]; decide) (by rw [c_1]; rfl) (by decide) ?_
    refine lv_iconst (v := 3) hx hb dX1_least_52 (by decide) ?_
    refine lv_goto (tgt := 65) hx hb dX1_least_53 (by decide) ?_
    exact x_iret (u := ()) C T hw (Nat.le_of_ble_eq_true rfl) (Nat.le_of_ble_eq_true rfl) dX1_least_65
  · replace hw := hw.2 c_1
    rcases Decidable.em (p0 = 1) with c_2 | c_2
    · replace hw := hw.1 c_2
      refine lv_tableIn (off := 55) (tgt := 56) hx hb dX1_least_1 (by rw [c_2]; decide) (by rw [c_2]; decide) (by rw [c_2]; rfl) (by decide) ?_
      refine lv_iconst (v := 5) hx hb dX1_least_56 (by decide) ?_
      refine lv_goto (tgt := 65) hx hb dX1_least_57 (by decide) ?_
      exact x_iret (u := ()) C T hw (Nat.le_of_ble_eq_true rfl) (Nat.le_of_ble_eq_true rfl) dX1_least_65
    · replace hw := hw.2 c_2
      rcases Decidable.em (p0 = 2) with c_3 | c_3
      · replace hw := hw.1 c_3
        refine lv_tableIn (off := 59) (tgt := 60) hx hb dX1_least_1 (by rw [c_3]; decide) (by rw [c_3]; decide) (by rw [c_3]; rfl) (by decide) ?_
        refine lv_iconst (v := 1) hx hb dX1_least_60 (by decide) ?_
        refine lv_goto (tgt := 65) hx hb dX1_least_61 (by decide) ?_
        exact x_iret (u := ()) C T hw (Nat.le_of_ble_eq_true rfl) (Nat.le_of_ble_eq_true rfl) dX1_least_65
      · replace hw := hw.2 c_3
        rcases Decidable.em (p0 = 5) with c_4 | c_4
        · replace hw := hw.1 c_4
          refine lv_tableIn (off := 59) (tgt := 60) hx hb dX1_least_1 (by rw [c_4]; decide) (by rw [c_4]; decide) (by rw [c_4]; rfl) (by decide) ?_
          refine lv_iconst (v := 1) hx hb dX1_least_60 (by decide) ?_
          refine lv_goto (tgt := 65) hx hb dX1_least_61 (by decide) ?_
          exact x_iret (u := ()) C T hw (Nat.le_of_ble_eq_true rfl) (Nat.le_of_ble_eq_true rfl) dX1_least_65
        · replace hw := hw.2 c_4
          rcases Decidable.em (p0 = 6) with c_5 | c_5
          · replace hw := hw.1 c_5
            refine lv_tableIn (off := 59) (tgt := 60) hx hb dX1_least_1 (by rw [c_5]; decide) (by rw [c_5]; decide) (by rw [c_5]; rfl) (by decide) ?_
            refine lv_iconst (v := 1) hx hb dX1_least_60 (by decide) ?_
            refine lv_goto (tgt := 65) hx hb dX1_least_61 (by decide) ?_
            exact x_iret (u := ()) C T hw (Nat.le_of_ble_eq_true rfl) (Nat.le_of_ble_eq_true rfl) dX1_least_65
          · replace hw := hw.2 c_5
            rcases Decidable.em (p0 = 8) with c_6 | c_6
            · replace hw := hw.1 c_6
              refine lv_tableIn (off := 59) (tgt := 60) hx hb dX1_least_1 (by rw [c_6]; decide) (by rw [c_6]; decide) (by rw [c_6]; rfl) (by decide) ?_
              refine lv_iconst (v := 1) hx hb dX1_least_60 (by decide) ?_
              refine lv_goto (tgt := 65) hx hb dX1_least_61 (by decide) ?_
              exact x_iret (u := ()) C T hw (Nat.le_of_ble_eq_true rfl) (Nat.le_of_ble_eq_true rfl) dX1_least_65
            · replace hw := hw.2 c_6
              refine x_tableD (tgt := 64) hx hb dX1_least_1 (by decide) ?_ ?_
              · have ho : p0.toInt < 0 ∨ 8 < p0.toInt ∨ p0.toInt = 3 ∨ p0.toInt = 4 ∨ p0.toInt = 7 := by
                  have := lv_neT c_1 (k := 0) (a := 0) (by decide)
                  have := lv_neT c_2 (k := 1) (a := 1) (by decide)
                  have := lv_neT c_3 (k := 2) (a := 2) (by decide)
                  have := lv_neT c_4 (k := 5) (a := 5) (by decide)
                  have := lv_neT c_5 (k := 6) (a := 6) (by decide)
                  have := lv_neT c_6 (k := 8) (a := 8) (by decide)
                  omega
                rcases ho with h | h | h | h | h
                · exact Or.inl h
                · exact Or.inr (Or.inl h)
                · exact Or.inr (Or.inr (by rw [h]; decide))
                · exact Or.inr (Or.inr (by rw [h]; decide))
                · exact Or.inr (Or.inr (by rw [h]; decide))
              refine lv_iconst (v := 0) hx hb dX1_least_64 (by decide) ?_
              exact x_iret (u := ()) C T hw (Nat.le_of_ble_eq_true rfl) (Nat.le_of_ble_eq_true rfl) dX1_least_65
def wpX4_many (post : Int32 → Prop) (Nn : Nat → Int32) : Prop := (post (Nn 0))
set_option maxHeartbeats 4000000 in
set_option maxRecDepth 100000 in
theorem mtX4_many (l : Launch) {κ : xK} {E : xEnv} (hE : xStable κ E) (D : va_G) (d : Nat → ClassId) (hs h1 h2 h3 h4 h5 : Nat) (G : Nat → Int32) (Nn : Nat → Int32) (Hh : Nat → Int32) (Mk : Nat → Int32) (Sk : Nat → Int32) (sz : Nat) (post : Int32 → Prop) (hw : wpX4_many post Nn) : Met l yX4_many (ws_ yX4_many cX4_many 1 (some .int)) ({ frames := 1, cells := 0, slots := 0, locals := 0 } : Room) (xPc E D (xTys d) ([(hs, .inr (2, [.ref h1, .ref h2, .ref h3, .ref h4, .ref h5, .int (G 5), .int (G 6), .int (G 7), .int (G 8), .int (G 9), .int (G 10), .int (G 11), .int (G 12), .int (G 13), .int (G 14), .int (G 15), .int (G 16)])), (h1, xI (d 0) 9 Nn), (h2, xI (d 0) 9 Hh), (h3, xI (d 0) 61 Mk), (h4, xI (d 1) 9 Sk)]) sz [.ref hs]) ((fun A : Nat → Prop => va_Qi (fun (r : Int32) (u : Unit) => post r) (xB D (xTys d) A (fun (u : Unit) => [(hs, .inr (2, [.ref h1, .ref h2, .ref h3, .ref h4, .ref h5, .int (G 5), .int (G 6), .int (G 7), .int (G 8), .int (G 9), .int (G 10), .int (G 11), .int (G 12), .int (G 13), .int (G 14), .int (G 15), .int (G 16)])), (h1, xI (d 0) 9 Nn), (h2, xI (d 0) 9 Hh), (h3, xI (d 0) 61 Mk), (h4, xI (d 1) 9 Sk)])) A) (va_A ([(hs, .inr (2, [.ref h1, .ref h2, .ref h3, .ref h4, .ref h5, .int (G 5), .int (G 6), .int (G 7), .int (G 8), .int (G 9), .int (G 10), .int (G 11), .int (G 12), .int (G 13), .int (G 14), .int (G 15), .int (G 16)])), (h1, xI (d 0) 9 Nn), (h2, xI (d 0) 9 Hh), (h3, xI (d 0) 61 Mk), (h4, xI (d 1) 9 Sk)]) sz)) 0 0 (va_A ([(hs, .inr (2, [.ref h1, .ref h2, .ref h3, .ref h4, .ref h5, .int (G 5), .int (G 6), .int (G 7), .int (G 8), .int (G 9), .int (G 10), .int (G 11), .int (G 12), .int (G 13), .int (G 14), .int (G 15), .int (G 16)])), (h1, xI (d 0) 9 Nn), (h2, xI (d 0) 9 Hh), (h3, xI (d 0) 61 Mk), (h4, xI (d 1) 9 Sk)]) sz) := by
  refine x_start (QcA := fun A => va_Qi (fun (r : Int32) (u : Unit) => post r) (xB D (xTys d) A (fun (u : Unit) => [(hs, .inr (2, [.ref h1, .ref h2, .ref h3, .ref h4, .ref h5, .int (G 5), .int (G 6), .int (G 7), .int (G 8), .int (G 9), .int (G 10), .int (G 11), .int (G 12), .int (G 13), .int (G 14), .int (G 15), .int (G 16)])), (h1, xI (d 0) 9 Nn), (h2, xI (d 0) 9 Hh), (h3, xI (d 0) 61 Mk), (h4, xI (d 1) 9 Sk)])) A) hE (by decide) (Nat.le_of_ble_eq_true rfl) ?_
  intro p e s m below meth c A C H locs hsz T ls hl
  obtain ⟨hx, hb, hr, hlk, hml, hown, hts, hA⟩ := id C
  replace hl : lv_has ls 1 [(0, .ref hs)] := hl
  unfold wpX4_many at hw
  refine lv_aload_n hx hb dX4_many_0 rfl (lv_at hl 0 rfl) ?_
  refine x_getA (v := .ref h1) (ci := 2) C T (T.at0 0 rfl) rfl 0 (by decide) in_X4 q644 rfl dX4_many_1 ?_
  refine lv_iconst (v := 0) hx hb dX4_many_4 (by decide) ?_
  refine x_ialdE (j := 0) C T 0 (T.at0 1 rfl) rfl (x_in (by decide)) (by decide) dX4_many_5 ?_
  exact x_iret (u := ()) C T hw (Nat.le_of_ble_eq_true rfl) (Nat.le_of_ble_eq_true rfl) dX4_many_6
def wpX4_depth (post : Int32 → Prop) (Nn : Nat → Int32) : Prop := (post (Nn 1))
set_option maxHeartbeats 4000000 in
set_option maxRecDepth 100000 in
theorem mtX4_depth (l : Launch) {κ : xK} {E : xEnv} (hE : xStable κ E) (D : va_G) (d : Nat → ClassId) (hs h1 h2 h3 h4 h5 : Nat) (G : Nat → Int32) (Nn : Nat → Int32) (Hh : Nat → Int32) (Mk : Nat → Int32) (Sk : Nat → Int32) (sz : Nat) (post : Int32 → Prop) (hw : wpX4_depth post Nn) : Met l yX4_depth (ws_ yX4_depth cX4_depth 1 (some .int)) ({ frames := 1, cells := 0, slots := 0, locals := 0 } : Room) (xPc E D (xTys d) ([(hs, .inr (2, [.ref h1, .ref h2, .ref h3, .ref h4, .ref h5, .int (G 5), .int (G 6), .int (G 7), .int (G 8), .int (G 9), .int (G 10), .int (G 11), .int (G 12), .int (G 13), .int (G 14), .int (G 15), .int (G 16)])), (h1, xI (d 0) 9 Nn), (h2, xI (d 0) 9 Hh), (h3, xI (d 0) 61 Mk), (h4, xI (d 1) 9 Sk)]) sz [.ref hs]) ((fun A : Nat → Prop => va_Qi (fun (r : Int32) (u : Unit) => post r) (xB D (xTys d) A (fun (u : Unit) => [(hs, .inr (2, [.ref h1, .ref h2, .ref h3, .ref h4, .ref h5, .int (G 5), .int (G 6), .int (G 7), .int (G 8), .int (G 9), .int (G 10), .int (G 11), .int (G 12), .int (G 13), .int (G 14), .int (G 15), .int (G 16)])), (h1, xI (d 0) 9 Nn), (h2, xI (d 0) 9 Hh), (h3, xI (d 0) 61 Mk), (h4, xI (d 1) 9 Sk)])) A) (va_A ([(hs, .inr (2, [.ref h1, .ref h2, .ref h3, .ref h4, .ref h5, .int (G 5), .int (G 6), .int (G 7), .int (G 8), .int (G 9), .int (G 10), .int (G 11), .int (G 12), .int (G 13), .int (G 14), .int (G 15), .int (G 16)])), (h1, xI (d 0) 9 Nn), (h2, xI (d 0) 9 Hh), (h3, xI (d 0) 61 Mk), (h4, xI (d 1) 9 Sk)]) sz)) 0 0 (va_A ([(hs, .inr (2, [.ref h1, .ref h2, .ref h3, .ref h4, .ref h5, .int (G 5), .int (G 6), .int (G 7), .int (G 8), .int (G 9), .int (G 10), .int (G 11), .int (G 12), .int (G 13), .int (G 14), .int (G 15), .int (G 16)])), (h1, xI (d 0) 9 Nn), (h2, xI (d 0) 9 Hh), (h3, xI (d 0) 61 Mk), (h4, xI (d 1) 9 Sk)]) sz) := by
  refine x_start (QcA := fun A => va_Qi (fun (r : Int32) (u : Unit) => post r) (xB D (xTys d) A (fun (u : Unit) => [(hs, .inr (2, [.ref h1, .ref h2, .ref h3, .ref h4, .ref h5, .int (G 5), .int (G 6), .int (G 7), .int (G 8), .int (G 9), .int (G 10), .int (G 11), .int (G 12), .int (G 13), .int (G 14), .int (G 15), .int (G 16)])), (h1, xI (d 0) 9 Nn), (h2, xI (d 0) 9 Hh), (h3, xI (d 0) 61 Mk), (h4, xI (d 1) 9 Sk)])) A) hE (by decide) (Nat.le_of_ble_eq_true rfl) ?_
  intro p e s m below meth c A C H locs hsz T ls hl
  obtain ⟨hx, hb, hr, hlk, hml, hown, hts, hA⟩ := id C
  replace hl : lv_has ls 1 [(0, .ref hs)] := hl
  unfold wpX4_depth at hw
  refine lv_aload_n hx hb dX4_depth_0 rfl (lv_at hl 0 rfl) ?_
  refine x_getA (v := .ref h1) (ci := 2) C T (T.at0 0 rfl) rfl 0 (by decide) in_X4 q644 rfl dX4_depth_1 ?_
  refine lv_iconst (v := 1) hx hb dX4_depth_4 (by decide) ?_
  refine x_ialdE (j := 1) C T 0 (T.at0 1 rfl) rfl (x_in (by decide)) (by decide) dX4_depth_5 ?_
  exact x_iret (u := ()) C T hw (Nat.le_of_ble_eq_true rfl) (Nat.le_of_ble_eq_true rfl) dX4_depth_6
def wpX4_lowerBeside (post : Int32 → Prop) (G : Nat → Int32) (Nn : Nat → Int32) (Hh : Nat → Int32) (Mk : Nat → Int32) (Sk : Nat → Int32) (p1 : Int32) : Prop := ((p1 = 0 → (post 1)) ∧ (¬ p1 = 0 → (wpX4_many (fun r_2 => ((p1 = (r_2 - 1) → (post (p1 - 1))) ∧ (¬ p1 = (r_2 - 1) → (vp_in (p1 + 1) 9 ∧ (vp_in (p1 - 1) 9 ∧ (((Hh (p1 - 1).toNatClampNeg) ≤ (Hh (p1 + 1).toNatClampNeg) → (post (p1 - 1))) ∧ (¬ (Hh (p1 - 1).toNatClampNeg) ≤ (Hh (p1 + 1).toNatClampNeg) → (post (p1 + 1))))))))) Nn)))
set_option maxHeartbeats 4000000 in
set_option maxRecDepth 100000 in
theorem mtX4_lowerBeside (l : Launch) {κ : xK} {E : xEnv} (hE : xStable κ E) (D : va_G) (d : Nat → ClassId) (hs h1 h2 h3 h4 h5 : Nat) (G : Nat → Int32) (Nn : Nat → Int32) (Hh : Nat → Int32) (Mk : Nat → Int32) (Sk : Nat → Int32) (p1 : Int32) (sz : Nat) (post : Int32 → Prop) (hw : wpX4_lowerBeside post G Nn Hh Mk Sk p1) : Met l yX4_lowerBeside (ws_ yX4_lowerBeside cX4_lowerBeside 2 (some .int)) ({ frames := 2, cells := 0, slots := 0, locals := 20 } : Room) (xPc E D (xTys d) ([(hs, .inr (2, [.ref h1, .ref h2, .ref h3, .ref h4, .ref h5, .int (G 5), .int (G 6), .int (G 7), .int (G 8), .int (G 9), .int (G 10), .int (G 11), .int (G 12), .int (G 13), .int (G 14), .int (G 15), .int (G 16)])), (h1, xI (d 0) 9 Nn), (h2, xI (d 0) 9 Hh), (h3, xI (d 0) 61 Mk), (h4, xI (d 1) 9 Sk)]) sz [.ref hs, .int p1]) ((fun A : Nat → Prop => va_Qi (fun (r : Int32) (u : Unit) => post r) (xB D (xTys d) A (fun (u : Unit) => [(hs, .inr (2, [.ref h1, .ref h2, .ref h3, .ref h4, .ref h5, .int (G 5), .int (G 6), .int (G 7), .int (G 8), .int (G 9), .int (G 10), .int (G 11), .int (G 12), .int (G 13), .int (G 14), .int (G 15), .int (G 16)])), (h1, xI (d 0) 9 Nn), (h2, xI (d 0) 9 Hh), (h3, xI (d 0) 61 Mk), (h4, xI (d 1) 9 Sk)])) A) (va_A ([(hs, .inr (2, [.ref h1, .ref h2, .ref h3, .ref h4, .ref h5, .int (G 5), .int (G 6), .int (G 7), .int (G 8), .int (G 9), .int (G 10), .int (G 11), .int (G 12), .int (G 13), .int (G 14), .int (G 15), .int (G 16)])), (h1, xI (d 0) 9 Nn), (h2, xI (d 0) 9 Hh), (h3, xI (d 0) 61 Mk), (h4, xI (d 1) 9 Sk)]) sz)) 0 0 (va_A ([(hs, .inr (2, [.ref h1, .ref h2, .ref h3, .ref h4, .ref h5, .int (G 5), .int (G 6), .int (G 7), .int (G 8), .int (G 9), .int (G 10), .int (G 11), .int (G 12), .int (G 13), .int (G 14), .int (G 15), .int (G 16)])), (h1, xI (d 0) 9 Nn), (h2, xI (d 0) 9 Hh), (h3, xI (d 0) 61 Mk), (h4, xI (d 1) 9 Sk)]) sz) := by
  refine x_start (QcA := fun A => va_Qi (fun (r : Int32) (u : Unit) => post r) (xB D (xTys d) A (fun (u : Unit) => [(hs, .inr (2, [.ref h1, .ref h2, .ref h3, .ref h4, .ref h5, .int (G 5), .int (G 6), .int (G 7), .int (G 8), .int (G 9), .int (G 10), .int (G 11), .int (G 12), .int (G 13), .int (G 14), .int (G 15), .int (G 16)])), (h1, xI (d 0) 9 Nn), (h2, xI (d 0) 9 Hh), (h3, xI (d 0) 61 Mk), (h4, xI (d 1) 9 Sk)])) A) hE (by decide) (Nat.le_of_ble_eq_true rfl) ?_
  intro p e s m below meth c A C H locs hsz T ls hl
  obtain ⟨hx, hb, hr, hlk, hml, hown, hts, hA⟩ := id C
  replace hl : lv_has ls 2 [(0, .ref hs), (1, .int p1)] := hl
  unfold wpX4_lowerBeside at hw
  refine lv_iload_n hx hb dX4_lowerBeside_0 rfl (lv_at hl 1 rfl) ?_
  refine lv_if_ne (tgt := 6) hx hb dX4_lowerBeside_1 (by decide) (fun c_1 => ?_) (fun c_1 => ?_)
  · replace hw := hw.2 c_1
    refine lv_iload_n hx hb dX4_lowerBeside_6 rfl (lv_at hl 1 rfl) ?_
    refine lv_aload_n hx hb dX4_lowerBeside_7 rfl (lv_at hl 0 rfl) ?_
    refine x_ki (X := [(hs, .inr (2, [.ref h1, .ref h2, .ref h3, .ref h4, .ref h5, .int (G 5), .int (G 6), .int (G 7), .int (G 8), .int (G 9), .int (G 10), .int (G 11), .int (G 12), .int (G 13), .int (G 14), .int (G 15), .int (G 16)])), (h1, xI (d 0) 9 Nn), (h2, xI (d 0) 9 Hh), (h3, xI (d 0) 61 Mk), (h4, xI (d 1) 9 Sk)]) (pl := []) (wc := [(hs, .inr (2, [.ref h1, .ref h2, .ref h3, .ref h4, .ref h5, .int (G 5), .int (G 6), .int (G 7), .int (G 8), .int (G 9), .int (G 10), .int (G 11), .int (G 12), .int (G 13), .int (G 14), .int (G 15), .int (G 16)])), (h1, xI (d 0) 9 Nn), (h2, xI (d 0) 9 Hh), (h3, xI (d 0) 61 Mk), (h4, xI (d 1) 9 Sk)]) (wr := []) C T [0, 1, 2, 3, 4] [] rfl rfl rfl (by decide) rfl (x_rV (As := []) (rest := [.int p1]) C (x_preq hE T [0, 1, 2, 3, 4] rfl rfl (fun U hU hW => (x_envT (X := [(hs, .inr (2, [.ref h1, .ref h2, .ref h3, .ref h4, .ref h5, .int (G 5), .int (G 6), .int (G 7), .int (G 8), .int (G 9), .int (G 10), .int (G 11), .int (G 12), .int (G 13), .int (G 14), .int (G 15), .int (G 16)])), (h1, xI (d 0) 9 Nn), (h2, xI (d 0) 9 Hh), (h3, xI (d 0) 61 Mk), (h4, xI (d 1) 9 Sk)]) (pl := []) hE C T [0, 1, 2, 3, 4] rfl U hU hW)) _) (mtX4_many l hE D d hs h1 h2 h3 h4 h5 G Nn Hh Mk Sk H.size _ hw) (cwV 0 hts (lw_V q973 q851 q852 q108 q853) rfl rfl rfl (by decide +kernel) ⟨Nat.le_of_ble_eq_true rfl, Nat.le_of_ble_eq_true rfl⟩) (x_recvA T (ci := 2) rfl (T.at0 0 rfl)) rfl hl.1 (lv_room (Nat.le_of_ble_eq_true rfl)) dX4_lowerBeside_8 ⟨(Nat.le_of_ble_eq_true rfl), (Nat.le_of_ble_eq_true rfl)⟩) (fun r u H locs hw T => ?_)
    obtain ⟨r_2, rfl⟩ : ∃ z, z = r := ⟨_, rfl⟩
    replace T : xT E D (xTys d) A s H locs ([(hs, .inr (2, [.ref h1, .ref h2, .ref h3, .ref h4, .ref h5, .int (G 5), .int (G 6), .int (G 7), .int (G 8), .int (G 9), .int (G 10), .int (G 11), .int (G 12), .int (G 13), .int (G 14), .int (G 15), .int (G 16)])), (h1, xI (d 0) 9 Nn), (h2, xI (d 0) 9 Hh), (h3, xI (d 0) 61 Mk), (h4, xI (d 1) 9 Sk)]) := T
    refine lv_iconst (v := 1) hx hb dX4_lowerBeside_11 (by decide) ?_
    refine lv_isub hx hb dX4_lowerBeside_12 ?_
    refine lv_icmp_ne (tgt := 20) hx hb dX4_lowerBeside_13 (by decide) (fun c_3 => ?_) (fun c_3 => ?_)
    · replace hw := hw.2 c_3
      refine lv_aload_n hx hb dX4_lowerBeside_20 rfl (lv_at hl 0 rfl) ?_
      refine x_getA (v := .ref h2) (ci := 2) C T (T.at0 0 rfl) rfl 1 (by decide) in_X4 q647 rfl dX4_lowerBeside_21 ?_
      refine lv_iload_n hx hb dX4_lowerBeside_24 rfl (lv_at hl 1 rfl) ?_
      refine lv_iconst (v := 1) hx hb dX4_lowerBeside_25 (by decide) ?_
      refine lv_iadd hx hb dX4_lowerBeside_26 ?_
      refine x_ialdE C T 0 (T.at0 2 rfl) rfl hw.1 rfl dX4_lowerBeside_27 ?_
      replace hw := hw.2
      refine lv_aload_n hx hb dX4_lowerBeside_28 rfl (lv_at hl 0 rfl) ?_
      refine x_getA (v := .ref h2) (ci := 2) C T (T.at0 0 rfl) rfl 1 (by decide) in_X4 q647 rfl dX4_lowerBeside_29 ?_
      refine lv_iload_n hx hb dX4_lowerBeside_32 rfl (lv_at hl 1 rfl) ?_
      refine lv_iconst (v := 1) hx hb dX4_lowerBeside_33 (by decide) ?_
      refine lv_isub hx hb dX4_lowerBeside_34 ?_
      refine x_ialdE C T 0 (T.at0 2 rfl) rfl hw.1 rfl dX4_lowerBeside_35 ?_
      replace hw := hw.2
      refine lv_icmp_ge (tgt := 45) hx hb dX4_lowerBeside_36 (by decide) (fun c_4 => ?_) (fun c_4 => ?_)
      · replace hw := hw.1 c_4
        refine lv_iload_n hx hb dX4_lowerBeside_45 rfl (lv_at hl 1 rfl) ?_
        refine lv_iconst (v := 1) hx hb dX4_lowerBeside_46 (by decide) ?_
        refine lv_isub hx hb dX4_lowerBeside_47 ?_
        exact x_iret (u := ()) C T hw (Nat.le_of_ble_eq_true rfl) (Nat.le_of_ble_eq_true rfl) dX4_lowerBeside_48
      · replace hw := hw.2 c_4
        refine lv_iload_n hx hb dX4_lowerBeside_39 rfl (lv_at hl 1 rfl) ?_
        refine lv_iconst (v := 1) hx hb dX4_lowerBeside_40 (by decide) ?_
        refine lv_iadd hx hb dX4_lowerBeside_41 ?_
        refine lv_goto (tgt := 48) hx hb dX4_lowerBeside_42 (by decide) ?_
        exact x_iret (u := ()) C T hw (Nat.le_of_ble_eq_true rfl) (Nat.le_of_ble_eq_true rfl) dX4_lowerBeside_48
    · replace hw := hw.1 c_3
      refine lv_iload_n hx hb dX4_lowerBeside_16 rfl (lv_at hl 1 rfl) ?_
      refine lv_iconst (v := 1) hx hb dX4_lowerBeside_17 (by decide) ?_
      refine lv_isub hx hb dX4_lowerBeside_18 ?_
      exact x_iret (u := ()) C T hw (Nat.le_of_ble_eq_true rfl) (Nat.le_of_ble_eq_true rfl) dX4_lowerBeside_19
  · replace hw := hw.1 c_1
    refine lv_iconst (v := 1) hx hb dX4_lowerBeside_4 (by decide) ?_
    exact x_iret (u := ()) C T hw (Nat.le_of_ble_eq_true rfl) (Nat.le_of_ble_eq_true rfl) dX4_lowerBeside_5
def wpX4_slideTo (post : Int32 → Prop) (G : Nat → Int32) (Nn : Nat → Int32) (Hh : Nat → Int32) (Mk : Nat → Int32) (Sk : Nat → Int32) (p1 : Int32) : Prop := (wpX4_lowerBeside (fun r_1 => (vp_in p1 9 ∧ (vp_in r_1 9 ∧ ((((Hh p1.toNatClampNeg) - (Hh r_1.toNatClampNeg)) ≤ (Nn 2) → (post (-1))) ∧ (¬ ((Hh p1.toNatClampNeg) - (Hh r_1.toNatClampNeg)) ≤ (Nn 2) → (post r_1)))))) G Nn Hh Mk Sk p1)
set_option maxHeartbeats 4000000 in
set_option maxRecDepth 100000 in
theorem mtX4_slideTo (l : Launch) {κ : xK} {E : xEnv} (hE : xStable κ E) (D : va_G) (d : Nat → ClassId) (hs h1 h2 h3 h4 h5 : Nat) (G : Nat → Int32) (Nn : Nat → Int32) (Hh : Nat → Int32) (Mk : Nat → Int32) (Sk : Nat → Int32) (p1 : Int32) (sz : Nat) (post : Int32 → Prop) (hw : wpX4_slideTo post G Nn Hh Mk Sk p1) : Met l yX4_slideTo (ws_ yX4_slideTo cX4_slideTo 3 (some .int)) ({ frames := 3, cells := 0, slots := 0, locals := 41 } : Room) (xPc E D (xTys d) ([(hs, .inr (2, [.ref h1, .ref h2, .ref h3, .ref h4, .ref h5, .int (G 5), .int (G 6), .int (G 7), .int (G 8), .int (G 9), .int (G 10), .int (G 11), .int (G 12), .int (G 13), .int (G 14), .int (G 15), .int (G 16)])), (h1, xI (d 0) 9 Nn), (h2, xI (d 0) 9 Hh), (h3, xI (d 0) 61 Mk), (h4, xI (d 1) 9 Sk)]) sz [.ref hs, .int p1]) ((fun A : Nat → Prop => va_Qi (fun (r : Int32) (u : Unit) => post r) (xB D (xTys d) A (fun (u : Unit) => [(hs, .inr (2, [.ref h1, .ref h2, .ref h3, .ref h4, .ref h5, .int (G 5), .int (G 6), .int (G 7), .int (G 8), .int (G 9), .int (G 10), .int (G 11), .int (G 12), .int (G 13), .int (G 14), .int (G 15), .int (G 16)])), (h1, xI (d 0) 9 Nn), (h2, xI (d 0) 9 Hh), (h3, xI (d 0) 61 Mk), (h4, xI (d 1) 9 Sk)])) A) (va_A ([(hs, .inr (2, [.ref h1, .ref h2, .ref h3, .ref h4, .ref h5, .int (G 5), .int (G 6), .int (G 7), .int (G 8), .int (G 9), .int (G 10), .int (G 11), .int (G 12), .int (G 13), .int (G 14), .int (G 15), .int (G 16)])), (h1, xI (d 0) 9 Nn), (h2, xI (d 0) 9 Hh), (h3, xI (d 0) 61 Mk), (h4, xI (d 1) 9 Sk)]) sz)) 0 0 (va_A ([(hs, .inr (2, [.ref h1, .ref h2, .ref h3, .ref h4, .ref h5, .int (G 5), .int (G 6), .int (G 7), .int (G 8), .int (G 9), .int (G 10), .int (G 11), .int (G 12), .int (G 13), .int (G 14), .int (G 15), .int (G 16)])), (h1, xI (d 0) 9 Nn), (h2, xI (d 0) 9 Hh), (h3, xI (d 0) 61 Mk), (h4, xI (d 1) 9 Sk)]) sz) := by
  refine x_start (QcA := fun A => va_Qi (fun (r : Int32) (u : Unit) => post r) (xB D (xTys d) A (fun (u : Unit) => [(hs, .inr (2, [.ref h1, .ref h2, .ref h3, .ref h4, .ref h5, .int (G 5), .int (G 6), .int (G 7), .int (G 8), .int (G 9), .int (G 10), .int (G 11), .int (G 12), .int (G 13), .int (G 14), .int (G 15), .int (G 16)])), (h1, xI (d 0) 9 Nn), (h2, xI (d 0) 9 Hh), (h3, xI (d 0) 61 Mk), (h4, xI (d 1) 9 Sk)])) A) hE (by decide) (Nat.le_of_ble_eq_true rfl) ?_
  intro p e s m below meth c A C H locs hsz T ls hl
  obtain ⟨hx, hb, hr, hlk, hml, hown, hts, hA⟩ := id C
  replace hl : lv_has ls 3 [(0, .ref hs), (1, .int p1)] := hl
  unfold wpX4_slideTo at hw
  refine lv_aload_n hx hb dX4_slideTo_0 rfl (lv_at hl 0 rfl) ?_
  refine lv_iload_n hx hb dX4_slideTo_1 rfl (lv_at hl 1 rfl) ?_
  refine x_ki (X := [(hs, .inr (2, [.ref h1, .ref h2, .ref h3, .ref h4, .ref h5, .int (G 5), .int (G 6), .int (G 7), .int (G 8), .int (G 9), .int (G 10), .int (G 11), .int (G 12), .int (G 13), .int (G 14), .int (G 15), .int (G 16)])), (h1, xI (d 0) 9 Nn), (h2, xI (d 0) 9 Hh), (h3, xI (d 0) 61 Mk), (h4, xI (d 1) 9 Sk)]) (pl := []) (wc := [(hs, .inr (2, [.ref h1, .ref h2, .ref h3, .ref h4, .ref h5, .int (G 5), .int (G 6), .int (G 7), .int (G 8), .int (G 9), .int (G 10), .int (G 11), .int (G 12), .int (G 13), .int (G 14), .int (G 15), .int (G 16)])), (h1, xI (d 0) 9 Nn), (h2, xI (d 0) 9 Hh), (h3, xI (d 0) 61 Mk), (h4, xI (d 1) 9 Sk)]) (wr := []) C T [0, 1, 2, 3, 4] [] rfl rfl rfl (by decide) rfl (x_rV (As := [.int p1]) (rest := []) C (x_preq hE T [0, 1, 2, 3, 4] rfl rfl (fun U hU hW => (x_envT (X := [(hs, .inr (2, [.ref h1, .ref h2, .ref h3, .ref h4, .ref h5, .int (G 5), .int (G 6), .int (G 7), .int (G 8), .int (G 9), .int (G 10), .int (G 11), .int (G 12), .int (G 13), .int (G 14), .int (G 15), .int (G 16)])), (h1, xI (d 0) 9 Nn), (h2, xI (d 0) 9 Hh), (h3, xI (d 0) 61 Mk), (h4, xI (d 1) 9 Sk)]) (pl := []) hE C T [0, 1, 2, 3, 4] rfl U hU hW)) _) (mtX4_lowerBeside l hE D d hs h1 h2 h3 h4 h5 G Nn Hh Mk Sk p1 H.size _ hw) (cwV 1 hts (lw_V q978 q980 qs14 q108 q981) rfl rfl rfl (by decide +kernel) ⟨Nat.le_of_ble_eq_true rfl, Nat.le_of_ble_eq_true rfl⟩) (x_recvA T (ci := 2) rfl (T.at0 0 rfl)) rfl hl.1 (lv_room (Nat.le_of_ble_eq_true rfl)) dX4_slideTo_2 ⟨(Nat.le_of_ble_eq_true rfl), (Nat.le_of_ble_eq_true rfl)⟩) (fun r u H locs hw T => ?_)
  obtain ⟨r_1, rfl⟩ : ∃ z, z = r := ⟨_, rfl⟩
  replace T : xT E D (xTys d) A s H locs ([(hs, .inr (2, [.ref h1, .ref h2, .ref h3, .ref h4, .ref h5, .int (G 5), .int (G 6), .int (G 7), .int (G 8), .int (G 9), .int (G 10), .int (G 11), .int (G 12), .int (G 13), .int (G 14), .int (G 15), .int (G 16)])), (h1, xI (d 0) 9 Nn), (h2, xI (d 0) 9 Hh), (h3, xI (d 0) 61 Mk), (h4, xI (d 1) 9 Sk)]) := T
  refine lv_istore_n (lv' := [(2, .int r_1), (0, .ref hs), (1, .int p1)]) hx hb dX4_slideTo_5 rfl hl (by decide) rfl (fun ls hl => ?_)
  refine lv_aload_n hx hb dX4_slideTo_6 rfl (lv_at hl 1 rfl) ?_
  refine x_getA (v := .ref h2) (ci := 2) C T (T.at0 0 rfl) rfl 1 (by decide) in_X4 q647 rfl dX4_slideTo_7 ?_
  refine lv_iload_n hx hb dX4_slideTo_10 rfl (lv_at hl 2 rfl) ?_
  refine x_ialdE C T 0 (T.at0 2 rfl) rfl hw.1 rfl dX4_slideTo_11 ?_
  replace hw := hw.2
  refine lv_aload_n hx hb dX4_slideTo_12 rfl (lv_at hl 1 rfl) ?_
  refine x_getA (v := .ref h2) (ci := 2) C T (T.at0 0 rfl) rfl 1 (by decide) in_X4 q647 rfl dX4_slideTo_13 ?_
  refine lv_iload_n hx hb dX4_slideTo_16 rfl (lv_at hl 0 rfl) ?_
  refine x_ialdE C T 0 (T.at0 2 rfl) rfl hw.1 rfl dX4_slideTo_17 ?_
  replace hw := hw.2
  refine lv_isub hx hb dX4_slideTo_18 ?_
  refine lv_aload_n hx hb dX4_slideTo_19 rfl (lv_at hl 1 rfl) ?_
  refine x_getA (v := .ref h1) (ci := 2) C T (T.at0 0 rfl) rfl 0 (by decide) in_X4 q644 rfl dX4_slideTo_20 ?_
  refine lv_iconst (v := 2) hx hb dX4_slideTo_23 (by decide) ?_
  refine x_ialdE (j := 2) C T 0 (T.at0 1 rfl) rfl (x_in (by decide)) (by decide) dX4_slideTo_24 ?_
  refine lv_icmp_le (tgt := 32) hx hb dX4_slideTo_25 (by decide) (fun c_2 => ?_) (fun c_2 => ?_)
  · replace hw := hw.1 c_2
    refine lv_iconst (v := (-1)) hx hb dX4_slideTo_32 (by decide) ?_
    exact x_iret (u := ()) C T hw (Nat.le_of_ble_eq_true rfl) (Nat.le_of_ble_eq_true rfl) dX4_slideTo_33
  · replace hw := hw.2 c_2
    refine lv_iload_n hx hb dX4_slideTo_28 rfl (lv_at hl 0 rfl) ?_
    refine lv_goto (tgt := 33) hx hb dX4_slideTo_29 (by decide) ?_
    exact x_iret (u := ()) C T hw (Nat.le_of_ble_eq_true rfl) (Nat.le_of_ble_eq_true rfl) dX4_slideTo_33
def wX4_firstToSlide_2 (post : Int32 → Prop) (G : Nat → Int32) (Nn : Nat → Int32) (Hh : Nat → Int32) (Mk : Nat → Int32) (Sk : Nat → Int32) : Nat → Int32 → Prop
  | 0 => fun _ => False
  | k9 + 1 => fun x1 => (wpX4_many (fun r_1 => ((r_1 ≤ x1 → (post (-1))) ∧ (¬ r_1 ≤ x1 → (vp_in x1 9 ∧ (((Sk x1.toNatClampNeg) = 0 → (wpX4_slideTo (fun r_5 => ((r_5 = (-1) → (∀ x1_7 : Int32, x1_7 = x1 + 1 → (wX4_firstToSlide_2 post G Nn Hh Mk Sk k9 x1_7))) ∧ (¬ r_5 = (-1) → (post x1)))) G Nn Hh Mk Sk x1)) ∧ (¬ (Sk x1.toNatClampNeg) = 0 → (∀ x1_4 : Int32, x1_4 = x1 + 1 → (wX4_firstToSlide_2 post G Nn Hh Mk Sk k9 x1_4)))))))) Nn)
def wpX4_firstToSlide (post : Int32 → Prop) (G : Nat → Int32) (Nn : Nat → Int32) (Hh : Nat → Int32) (Mk : Nat → Int32) (Sk : Nat → Int32) : Prop := (∃ fu2 : Nat, wX4_firstToSlide_2 post G Nn Hh Mk Sk fu2 0)
set_option maxHeartbeats 4000000 in
set_option maxRecDepth 100000 in
theorem wkX4_firstToSlide_2 (l : Launch) {κ : xK} {E : xEnv} (hE : xStable κ E) (D : va_G) (d : Nat → ClassId) (hs h1 h2 h3 h4 h5 : Nat) (post : Int32 → Prop) {p : Program} {e : Env} {s : State} {m : MethodId} {args : Array Value} {below : List Frame} {meth : Method} {c : Code} {A : Nat → Prop} (C : xC RX4 cX4_firstToSlide 2 (some .int) p s m args meth c A) (G : Nat → Int32) (Nn : Nat → Int32) (Hh : Nat → Int32) (Mk : Nat → Int32) (Sk : Nat → Int32) : ∀ (k9 : Nat) (x1 : Int32), wX4_firstToSlide_2 post G Nn Hh Mk Sk k9 x1 → ∀ (H : Heap) (locs : List Loc), xT E D (xTys d) A s H locs ([(hs, .inr (2, [.ref h1, .ref h2, .ref h3, .ref h4, .ref h5, .int (G 5), .int (G 6), .int (G 7), .int (G 8), .int (G 9), .int (G 10), .int (G 11), .int (G 12), .int (G 13), .int (G 14), .int (G 15), .int (G 16)])), (h1, xI (d 0) 9 Nn), (h2, xI (d 0) 9 Hh), (h3, xI (d 0) 61 Mk), (h4, xI (d 1) 9 Sk)]) → ∀ ls : Array Slot, lv_has ls 2 [(0, .ref hs), (1, .int x1)] → W p l e (headSpec (ws_ yX4_firstToSlide cX4_firstToSlide 2 (some .int)) ({ frames := 4, cells := 0, slots := 0, locals := 63 } : Room)).room s m args below meth c H locs 0 0 (MQ below (va_Qi (fun (r : Int32) (u : Unit) => post r) (xB D (xTys d) A (fun (u : Unit) => [(hs, .inr (2, [.ref h1, .ref h2, .ref h3, .ref h4, .ref h5, .int (G 5), .int (G 6), .int (G 7), .int (G 8), .int (G 9), .int (G 10), .int (G 11), .int (G 12), .int (G 13), .int (G 14), .int (G 15), .int (G 16)])), (h1, xI (d 0) 9 Nn), (h2, xI (d 0) 9 Hh), (h3, xI (d 0) 61 Mk), (h4, xI (d 1) 9 Sk)])) A) args s 0 0 A) (F0 m 2 ls []) := by
  obtain ⟨hx, hb, hr, hlk, hml, hown, hts, hA⟩ := id C
  intro k9
  induction k9 with
  | zero =>
    intro x1 hw
    exact hw.elim
  | succ k9 ih =>
    intro x1 hw H locs T ls hl
    rw [wX4_firstToSlide_2] at hw
    refine lv_iload_n hx hb dX4_firstToSlide_2 rfl (lv_at hl 1 rfl) ?_
    refine lv_aload_n hx hb dX4_firstToSlide_3 rfl (lv_at hl 0 rfl) ?_
    refine x_ki (X := [(hs, .inr (2, [.ref h1, .ref h2, .ref h3, .ref h4, .ref h5, .int (G 5), .int (G 6), .int (G 7), .int (G 8), .int (G 9), .int (G 10), .int (G 11), .int (G 12), .int (G 13), .int (G 14), .int (G 15), .int (G 16)])), (h1, xI (d 0) 9 Nn), (h2, xI (d 0) 9 Hh), (h3, xI (d 0) 61 Mk), (h4, xI (d 1) 9 Sk)]) (pl := []) (wc := [(hs, .inr (2, [.ref h1, .ref h2, .ref h3, .ref h4, .ref h5, .int (G 5), .int (G 6), .int (G 7), .int (G 8), .int (G 9), .int (G 10), .int (G 11), .int (G 12), .int (G 13), .int (G 14), .int (G 15), .int (G 16)])), (h1, xI (d 0) 9 Nn), (h2, xI (d 0) 9 Hh), (h3, xI (d 0) 61 Mk), (h4, xI (d 1) 9 Sk)]) (wr := []) C T [0, 1, 2, 3, 4] [] rfl rfl rfl (by decide) rfl (x_rV (As := []) (rest := [.int x1]) C (x_preq hE T [0, 1, 2, 3, 4] rfl rfl (fun U hU hW => (x_envT (X := [(hs, .inr (2, [.ref h1, .ref h2, .ref h3, .ref h4, .ref h5, .int (G 5), .int (G 6), .int (G 7), .int (G 8), .int (G 9), .int (G 10), .int (G 11), .int (G 12), .int (G 13), .int (G 14), .int (G 15), .int (G 16)])), (h1, xI (d 0) 9 Nn), (h2, xI (d 0) 9 Hh), (h3, xI (d 0) 61 Mk), (h4, xI (d 1) 9 Sk)]) (pl := []) hE C T [0, 1, 2, 3, 4] rfl U hU hW)) _) (mtX4_many l hE D d hs h1 h2 h3 h4 h5 G Nn Hh Mk Sk H.size _ hw) (cwV 0 hts (lw_V q973 q851 q852 q108 q853) rfl rfl rfl (by decide +kernel) ⟨Nat.le_of_ble_eq_true rfl, Nat.le_of_ble_eq_true rfl⟩) (x_recvA T (ci := 2) rfl (T.at0 0 rfl)) rfl hl.1 (lv_room (Nat.le_of_ble_eq_true rfl)) dX4_firstToSlide_4 ⟨(Nat.le_of_ble_eq_true rfl), (Nat.le_of_ble_eq_true rfl)⟩) (fun r u H locs hw T => ?_)
    obtain ⟨r_1, rfl⟩ : ∃ z, z = r := ⟨_, rfl⟩
    replace T : xT E D (xTys d) A s H locs ([(hs, .inr (2, [.ref h1, .ref h2, .ref h3, .ref h4, .ref h5, .int (G 5), .int (G 6), .int (G 7), .int (G 8), .int (G 9), .int (G 10), .int (G 11), .int (G 12), .int (G 13), .int (G 14), .int (G 15), .int (G 16)])), (h1, xI (d 0) 9 Nn), (h2, xI (d 0) 9 Hh), (h3, xI (d 0) 61 Mk), (h4, xI (d 1) 9 Sk)]) := T
    refine lv_icmp_ge (tgt := 36) hx hb dX4_firstToSlide_7 (by decide) (fun c_2 => ?_) (fun c_2 => ?_)
    · replace hw := hw.1 c_2
      refine lv_iconst (v := (-1)) hx hb dX4_firstToSlide_36 (by decide) ?_
      exact x_iret (u := ()) C T hw (Nat.le_of_ble_eq_true rfl) (Nat.le_of_ble_eq_true rfl) dX4_firstToSlide_37
    · replace hw := hw.2 c_2
      refine lv_aload_n hx hb dX4_firstToSlide_10 rfl (lv_at hl 0 rfl) ?_
      refine x_getA (v := .ref h4) (ci := 2) C T (T.at0 0 rfl) rfl 3 (by decide) in_X4 q652 rfl dX4_firstToSlide_11 ?_
      refine lv_iload_n hx hb dX4_firstToSlide_14 rfl (lv_at hl 1 rfl) ?_
      refine x_zaldE C T 1 (T.at0 4 rfl) rfl hw.1 rfl dX4_firstToSlide_15 ?_
      replace hw := hw.2
      refine lv_if_ne (tgt := 30) hx hb dX4_firstToSlide_16 (by decide) (fun c_3 => ?_) (fun c_3 => ?_)
      · replace hw := hw.2 c_3
        obtain ⟨x1_4, ex1_4⟩ : ∃ z : Int32, z = x1 + 1 := ⟨_, rfl⟩
        replace hw := hw x1_4 ex1_4
        refine lv_iinc (v := x1_4) (lv' := [(1, .int x1_4), (0, .ref hs)]) hx hb dX4_firstToSlide_30 hl (k := 1) rfl (by rw [ex1_4]; rfl) (by decide) rfl (fun ls hl => ?_)
        refine lv_goto (tgt := 2) hx hb dX4_firstToSlide_33 (by decide) ?_
        exact ih x1_4 hw _ _ T _ (lv_sub hl [1, 0] rfl)
      · replace hw := hw.1 c_3
        refine lv_aload_n hx hb dX4_firstToSlide_19 rfl (lv_at hl 0 rfl) ?_
        refine lv_iload_n hx hb dX4_firstToSlide_20 rfl (lv_at hl 1 rfl) ?_
        refine x_ki (X := [(hs, .inr (2, [.ref h1, .ref h2, .ref h3, .ref h4, .ref h5, .int (G 5), .int (G 6), .int (G 7), .int (G 8), .int (G 9), .int (G 10), .int (G 11), .int (G 12), .int (G 13), .int (G 14), .int (G 15), .int (G 16)])), (h1, xI (d 0) 9 Nn), (h2, xI (d 0) 9 Hh), (h3, xI (d 0) 61 Mk), (h4, xI (d 1) 9 Sk)]) (pl := []) (wc := [(hs, .inr (2, [.ref h1, .ref h2, .ref h3, .ref h4, .ref h5, .int (G 5), .int (G 6), .int (G 7), .int (G 8), .int (G 9), .int (G 10), .int (G 11), .int (G 12), .int (G 13), .int (G 14), .int (G 15), .int (G 16)])), (h1, xI (d 0) 9 Nn), (h2, xI (d 0) 9 Hh), (h3, xI (d 0) 61 Mk), (h4, xI (d 1) 9 Sk)]) (wr := []) C T [0, 1, 2, 3, 4] [] rfl rfl rfl (by decide) rfl (x_rV (As := [.int x1]) (rest := []) C (x_preq hE T [0, 1, 2, 3, 4] rfl rfl (fun U hU hW => (x_envT (X := [(hs, .inr (2, [.ref h1, .ref h2, .ref h3, .ref h4, .ref h5, .int (G 5), .int (G 6), .int (G 7), .int (G 8), .int (G 9), .int (G 10), .int (G 11), .int (G 12), .int (G 13), .int (G 14), .int (G 15), .int (G 16)])), (h1, xI (d 0) 9 Nn), (h2, xI (d 0) 9 Hh), (h3, xI (d 0) 61 Mk), (h4, xI (d 1) 9 Sk)]) (pl := []) hE C T [0, 1, 2, 3, 4] rfl U hU hW)) _) (mtX4_slideTo l hE D d hs h1 h2 h3 h4 h5 G Nn Hh Mk Sk x1 H.size _ hw) (cwV 1 hts (lw_V q974 q975 q976 q108 q977) rfl rfl rfl (by decide +kernel) ⟨Nat.le_of_ble_eq_true rfl, Nat.le_of_ble_eq_true rfl⟩) (x_recvA T (ci := 2) rfl (T.at0 0 rfl)) rfl hl.1 (lv_room (Nat.le_of_ble_eq_true rfl)) dX4_firstToSlide_21 ⟨(Nat.le_of_ble_eq_true rfl), (Nat.le_of_ble_eq_true rfl)⟩) (fun r u H locs hw T => ?_)
        obtain ⟨r_5, rfl⟩ : ∃ z, z = r := ⟨_, rfl⟩
        replace T : xT E D (xTys d) A s H locs ([(hs, .inr (2, [.ref h1, .ref h2, .ref h3, .ref h4, .ref h5, .int (G 5), .int (G 6), .int (G 7), .int (G 8), .int (G 9), .int (G 10), .int (G 11), .int (G 12), .int (G 13), .int (G 14), .int (G 15), .int (G 16)])), (h1, xI (d 0) 9 Nn), (h2, xI (d 0) 9 Hh), (h3, xI (d 0) 61 Mk), (h4, xI (d 1) 9 Sk)]) := T
        refine lv_iconst (v := (-1)) hx hb dX4_firstToSlide_24 (by decide) ?_
        refine lv_icmp_eq (tgt := 30) hx hb dX4_firstToSlide_25 (by decide) (fun c_6 => ?_) (fun c_6 => ?_)
        · replace hw := hw.1 c_6
          obtain ⟨x1_7, ex1_7⟩ : ∃ z : Int32, z = x1 + 1 := ⟨_, rfl⟩
          replace hw := hw x1_7 ex1_7
          refine lv_iinc (v := x1_7) (lv' := [(1, .int x1_7), (0, .ref hs)]) hx hb dX4_firstToSlide_30 hl (k := 1) rfl (by rw [ex1_7]; rfl) (by decide) rfl (fun ls hl => ?_)
          refine lv_goto (tgt := 2) hx hb dX4_firstToSlide_33 (by decide) ?_
          exact ih x1_7 hw _ _ T _ (lv_sub hl [1, 0] rfl)
        · replace hw := hw.2 c_6
          refine lv_iload_n hx hb dX4_firstToSlide_28 rfl (lv_at hl 1 rfl) ?_
          exact x_iret (u := ()) C T hw (Nat.le_of_ble_eq_true rfl) (Nat.le_of_ble_eq_true rfl) dX4_firstToSlide_29
set_option maxHeartbeats 4000000 in
set_option maxRecDepth 100000 in
theorem mtX4_firstToSlide (l : Launch) {κ : xK} {E : xEnv} (hE : xStable κ E) (D : va_G) (d : Nat → ClassId) (hs h1 h2 h3 h4 h5 : Nat) (G : Nat → Int32) (Nn : Nat → Int32) (Hh : Nat → Int32) (Mk : Nat → Int32) (Sk : Nat → Int32) (sz : Nat) (post : Int32 → Prop) (hw : wpX4_firstToSlide post G Nn Hh Mk Sk) : Met l yX4_firstToSlide (ws_ yX4_firstToSlide cX4_firstToSlide 2 (some .int)) ({ frames := 4, cells := 0, slots := 0, locals := 63 } : Room) (xPc E D (xTys d) ([(hs, .inr (2, [.ref h1, .ref h2, .ref h3, .ref h4, .ref h5, .int (G 5), .int (G 6), .int (G 7), .int (G 8), .int (G 9), .int (G 10), .int (G 11), .int (G 12), .int (G 13), .int (G 14), .int (G 15), .int (G 16)])), (h1, xI (d 0) 9 Nn), (h2, xI (d 0) 9 Hh), (h3, xI (d 0) 61 Mk), (h4, xI (d 1) 9 Sk)]) sz [.ref hs]) ((fun A : Nat → Prop => va_Qi (fun (r : Int32) (u : Unit) => post r) (xB D (xTys d) A (fun (u : Unit) => [(hs, .inr (2, [.ref h1, .ref h2, .ref h3, .ref h4, .ref h5, .int (G 5), .int (G 6), .int (G 7), .int (G 8), .int (G 9), .int (G 10), .int (G 11), .int (G 12), .int (G 13), .int (G 14), .int (G 15), .int (G 16)])), (h1, xI (d 0) 9 Nn), (h2, xI (d 0) 9 Hh), (h3, xI (d 0) 61 Mk), (h4, xI (d 1) 9 Sk)])) A) (va_A ([(hs, .inr (2, [.ref h1, .ref h2, .ref h3, .ref h4, .ref h5, .int (G 5), .int (G 6), .int (G 7), .int (G 8), .int (G 9), .int (G 10), .int (G 11), .int (G 12), .int (G 13), .int (G 14), .int (G 15), .int (G 16)])), (h1, xI (d 0) 9 Nn), (h2, xI (d 0) 9 Hh), (h3, xI (d 0) 61 Mk), (h4, xI (d 1) 9 Sk)]) sz)) 0 0 (va_A ([(hs, .inr (2, [.ref h1, .ref h2, .ref h3, .ref h4, .ref h5, .int (G 5), .int (G 6), .int (G 7), .int (G 8), .int (G 9), .int (G 10), .int (G 11), .int (G 12), .int (G 13), .int (G 14), .int (G 15), .int (G 16)])), (h1, xI (d 0) 9 Nn), (h2, xI (d 0) 9 Hh), (h3, xI (d 0) 61 Mk), (h4, xI (d 1) 9 Sk)]) sz) := by
  refine x_start (QcA := fun A => va_Qi (fun (r : Int32) (u : Unit) => post r) (xB D (xTys d) A (fun (u : Unit) => [(hs, .inr (2, [.ref h1, .ref h2, .ref h3, .ref h4, .ref h5, .int (G 5), .int (G 6), .int (G 7), .int (G 8), .int (G 9), .int (G 10), .int (G 11), .int (G 12), .int (G 13), .int (G 14), .int (G 15), .int (G 16)])), (h1, xI (d 0) 9 Nn), (h2, xI (d 0) 9 Hh), (h3, xI (d 0) 61 Mk), (h4, xI (d 1) 9 Sk)])) A) hE (by decide) (Nat.le_of_ble_eq_true rfl) ?_
  intro p e s m below meth c A C H locs hsz T ls hl
  obtain ⟨hx, hb, hr, hlk, hml, hown, hts, hA⟩ := id C
  replace hl : lv_has ls 2 [(0, .ref hs)] := hl
  unfold wpX4_firstToSlide at hw
  refine lv_iconst (v := 0) hx hb dX4_firstToSlide_0 (by decide) ?_
  refine lv_istore_n (lv' := [(1, .int 0), (0, .ref hs)]) hx hb dX4_firstToSlide_1 rfl hl (by decide) rfl (fun ls hl => ?_)
  obtain ⟨fu2, hw⟩ := hw
  exact wkX4_firstToSlide_2 l hE D d hs h1 h2 h3 h4 h5 post C  G Nn Hh Mk Sk fu2 0 hw _ _ T _ (lv_sub hl [1, 0] rfl)
def wX4_slides_7 (post : Int32 → (Nat → Int32) → (Nat → Int32) → Prop) (Nn : Nat → Int32) (Mk : Nat → Int32) (Sk : Nat → Int32) : Nat → Int32 → Int32 → (Nat → Int32) → (Nat → Int32) → Prop
  | 0 => fun _ _ _ _ => False
  | k9 + 1 => fun x1 x2 G Hh => ((x2 = (-1) → (∀ f_3 : Int32, f_3 = (G 14) + x1 → (∀ G_4 : Nat → Int32, G_4 = upd G 14 f_3 → (post x1 Hh G_4)))) ∧ (¬ x2 = (-1) → (wpX4_slideTo (fun r_5 => (vp_in x2 9 ∧ (vp_in x2 9 ∧ (∀ Hh_6 : Nat → Int32, Hh_6 = upd Hh x2.toNatClampNeg ((Hh x2.toNatClampNeg) - 1) → (vp_in r_5 9 ∧ (vp_in r_5 9 ∧ (∀ Hh_7 : Nat → Int32, Hh_7 = upd Hh_6 r_5.toNatClampNeg ((Hh_6 r_5.toNatClampNeg) + 1) → (∀ x1_8 : Int32, x1_8 = x1 + 1 → (wpX4_firstToSlide (fun r_9 => (wX4_slides_7 post Nn Mk Sk k9 x1_8 r_9 G Hh_7)) G Nn Hh_7 Mk Sk))))))))) G Nn Hh Mk Sk x2)))
def wpX4_slides (post : Int32 → (Nat → Int32) → (Nat → Int32) → Prop) (G : Nat → Int32) (Nn : Nat → Int32) (Hh : Nat → Int32) (Mk : Nat → Int32) (Sk : Nat → Int32) : Prop := (wpX4_firstToSlide (fun r_1 => (∃ fu7 : Nat, wX4_slides_7 post Nn Mk Sk fu7 0 r_1 G Hh)) G Nn Hh Mk Sk)
set_option maxHeartbeats 4000000 in
set_option maxRecDepth 100000 in
theorem wkX4_slides_7 (l : Launch) {κ : xK} {E : xEnv} (hE : xStable κ E) (D : va_G) (d : Nat → ClassId) (hs h1 h2 h3 h4 h5 : Nat) (post : Int32 → (Nat → Int32) → (Nat → Int32) → Prop) {p : Program} {e : Env} {s : State} {m : MethodId} {args : Array Value} {below : List Frame} {meth : Method} {c : Code} {A : Nat → Prop} (C : xC RX4 cX4_slides 4 (some .int) p s m args meth c A) (Nn : Nat → Int32) (Mk : Nat → Int32) (Sk : Nat → Int32) : ∀ (k9 : Nat) (x1 : Int32) (x2 : Int32) (G : Nat → Int32) (Hh : Nat → Int32), wX4_slides_7 post Nn Mk Sk k9 x1 x2 G Hh → ∀ (H : Heap) (locs : List Loc), xT E D (xTys d) A s H locs ([(hs, .inr (2, [.ref h1, .ref h2, .ref h3, .ref h4, .ref h5, .int (G 5), .int (G 6), .int (G 7), .int (G 8), .int (G 9), .int (G 10), .int (G 11), .int (G 12), .int (G 13), .int (G 14), .int (G 15), .int (G 16)])), (h1, xI (d 0) 9 Nn), (h2, xI (d 0) 9 Hh), (h3, xI (d 0) 61 Mk), (h4, xI (d 1) 9 Sk)]) → ∀ ls : Array Slot, lv_has ls 4 [(0, .ref hs), (1, .int x1), (2, .int x2)] → W p l e (headSpec (ws_ yX4_slides cX4_slides 4 (some .int)) ({ frames := 5, cells := 0, slots := 0, locals := 84 } : Room)).room s m args below meth c H locs 0 0 (MQ below (va_Qi (fun (r : Int32) (u : (Nat → Int32) × (Nat → Int32)) => post r u.1 u.2) (xB D (xTys d) A (fun (u : (Nat → Int32) × (Nat → Int32)) => [(hs, .inr (2, [.ref h1, .ref h2, .ref h3, .ref h4, .ref h5, .int (u.2 5), .int (u.2 6), .int (u.2 7), .int (u.2 8), .int (u.2 9), .int (u.2 10), .int (u.2 11), .int (u.2 12), .int (u.2 13), .int (u.2 14), .int (u.2 15), .int (u.2 16)])), (h1, xI (d 0) 9 Nn), (h2, xI (d 0) 9 u.1), (h3, xI (d 0) 61 Mk), (h4, xI (d 1) 9 Sk)])) A) args s 0 0 A) (F0 m 7 ls []) := by
  obtain ⟨hx, hb, hr, hlk, hml, hown, hts, hA⟩ := id C
  intro k9
  induction k9 with
  | zero =>
    intro x1 x2 G Hh hw
    exact hw.elim
  | succ k9 ih =>
    intro x1 x2 G Hh hw H locs T ls hl
    rw [wX4_slides_7] at hw
    refine lv_iload_n hx hb dX4_slides_7 rfl (lv_at hl 2 rfl) ?_
    refine lv_iconst (v := (-1)) hx hb dX4_slides_8 (by decide) ?_
    refine lv_icmp_eq (tgt := 49) hx hb dX4_slides_9 (by decide) (fun c_2 => ?_) (fun c_2 => ?_)
    · replace hw := hw.1 c_2
      refine lv_aload_n hx hb dX4_slides_49 rfl (lv_at hl 0 rfl) ?_
      refine lv_dup hx hb dX4_slides_50 rfl ?_
      refine x_getA (v := .int (G 14)) (ci := 2) C T (T.at0 0 rfl) rfl 14 (by decide) in_X4 q677 rfl dX4_slides_51 ?_
      refine lv_iload_n hx hb dX4_slides_54 rfl (lv_at hl 1 rfl) ?_
      refine lv_iadd hx hb dX4_slides_55 ?_
      refine lv_topi (fun f_3 ef_3 => ?_)
      replace hw := hw f_3 ef_3
      refine x_put (v := .int f_3) (ty := .int) C T tyX4 tyX4_ok nmX4 0 rfl rfl 14 (by decide) in_X4 q677 rfl (by decide +kernel) rfl rfl (Nat.le_of_ble_eq_true rfl) dX4_slides_56 (fun H locs T => ?_)
      obtain ⟨G_4, eG_4⟩ : ∃ z : Nat → Int32, z = upd G 14 f_3 := ⟨_, rfl⟩
      replace T : xT E D (xTys d) A s H locs ([(hs, .inr (2, [.ref h1, .ref h2, .ref h3, .ref h4, .ref h5, .int (G_4 5), .int (G_4 6), .int (G_4 7), .int (G_4 8), .int (G_4 9), .int (G_4 10), .int (G_4 11), .int (G_4 12), .int (G_4 13), .int (G_4 14), .int (G_4 15), .int (G_4 16)])), (h1, xI (d 0) 9 Nn), (h2, xI (d 0) 9 Hh), (h3, xI (d 0) 61 Mk), (h4, xI (d 1) 9 Sk)]) := by rw [eG_4]; exact T
      replace hw := hw G_4 eG_4
      refine lv_iload_n hx hb dX4_slides_59 rfl (lv_at hl 1 rfl) ?_
      exact x_iret (u := (Hh, G_4)) C T hw (Nat.le_of_ble_eq_true rfl) (Nat.le_of_ble_eq_true rfl) dX4_slides_60
    · replace hw := hw.2 c_2
      refine lv_aload_n hx hb dX4_slides_12 rfl (lv_at hl 0 rfl) ?_
      refine lv_iload_n hx hb dX4_slides_13 rfl (lv_at hl 2 rfl) ?_
      refine x_ki (X := [(hs, .inr (2, [.ref h1, .ref h2, .ref h3, .ref h4, .ref h5, .int (G 5), .int (G 6), .int (G 7), .int (G 8), .int (G 9), .int (G 10), .int (G 11), .int (G 12), .int (G 13), .int (G 14), .int (G 15), .int (G 16)])), (h1, xI (d 0) 9 Nn), (h2, xI (d 0) 9 Hh), (h3, xI (d 0) 61 Mk), (h4, xI (d 1) 9 Sk)]) (pl := []) (wc := [(hs, .inr (2, [.ref h1, .ref h2, .ref h3, .ref h4, .ref h5, .int (G 5), .int (G 6), .int (G 7), .int (G 8), .int (G 9), .int (G 10), .int (G 11), .int (G 12), .int (G 13), .int (G 14), .int (G 15), .int (G 16)])), (h1, xI (d 0) 9 Nn), (h2, xI (d 0) 9 Hh), (h3, xI (d 0) 61 Mk), (h4, xI (d 1) 9 Sk)]) (wr := []) C T [0, 1, 2, 3, 4] [] rfl rfl rfl (by decide) rfl (x_rV (As := [.int x2]) (rest := []) C (x_preq hE T [0, 1, 2, 3, 4] rfl rfl (fun U hU hW => (x_envT (X := [(hs, .inr (2, [.ref h1, .ref h2, .ref h3, .ref h4, .ref h5, .int (G 5), .int (G 6), .int (G 7), .int (G 8), .int (G 9), .int (G 10), .int (G 11), .int (G 12), .int (G 13), .int (G 14), .int (G 15), .int (G 16)])), (h1, xI (d 0) 9 Nn), (h2, xI (d 0) 9 Hh), (h3, xI (d 0) 61 Mk), (h4, xI (d 1) 9 Sk)]) (pl := []) hE C T [0, 1, 2, 3, 4] rfl U hU hW)) _) (mtX4_slideTo l hE D d hs h1 h2 h3 h4 h5 G Nn Hh Mk Sk x2 H.size _ hw) (cwV 1 hts (lw_V q974 q975 q976 q108 q977) rfl rfl rfl (by decide +kernel) ⟨Nat.le_of_ble_eq_true rfl, Nat.le_of_ble_eq_true rfl⟩) (x_recvA T (ci := 2) rfl (T.at0 0 rfl)) rfl hl.1 (lv_room (Nat.le_of_ble_eq_true rfl)) dX4_slides_14 ⟨(Nat.le_of_ble_eq_true rfl), (Nat.le_of_ble_eq_true rfl)⟩) (fun r u H locs hw T => ?_)
      obtain ⟨r_5, rfl⟩ : ∃ z, z = r := ⟨_, rfl⟩
      replace T : xT E D (xTys d) A s H locs ([(hs, .inr (2, [.ref h1, .ref h2, .ref h3, .ref h4, .ref h5, .int (G 5), .int (G 6), .int (G 7), .int (G 8), .int (G 9), .int (G 10), .int (G 11), .int (G 12), .int (G 13), .int (G 14), .int (G 15), .int (G 16)])), (h1, xI (d 0) 9 Nn), (h2, xI (d 0) 9 Hh), (h3, xI (d 0) 61 Mk), (h4, xI (d 1) 9 Sk)]) := T
      refine lv_istore_n (lv' := [(3, .int r_5), (0, .ref hs), (1, .int x1), (2, .int x2)]) hx hb dX4_slides_17 rfl hl (by decide) rfl (fun ls hl => ?_)
      refine lv_aload_n hx hb dX4_slides_18 rfl (lv_at hl 1 rfl) ?_
      refine x_getA (v := .ref h2) (ci := 2) C T (T.at0 0 rfl) rfl 1 (by decide) in_X4 q647 rfl dX4_slides_19 ?_
      refine lv_iload_n hx hb dX4_slides_22 rfl (lv_at hl 3 rfl) ?_
      refine lv_dup2_11 hx hb dX4_slides_23 rfl rfl ?_
      refine x_ialdE C T 0 (T.at0 2 rfl) rfl hw.1 rfl dX4_slides_24 ?_
      replace hw := hw.2
      refine lv_iconst (v := 1) hx hb dX4_slides_25 (by decide) ?_
      refine lv_isub hx hb dX4_slides_26 ?_
      refine x_iast C T 2 0 rfl rfl hw.1 rfl dX4_slides_27 (fun H locs T => ?_)
      replace hw := hw.2
      obtain ⟨Hh_6, eHh_6⟩ : ∃ z : Nat → Int32, z = upd Hh x2.toNatClampNeg ((Hh x2.toNatClampNeg) - 1) := ⟨_, rfl⟩
      replace T : xT E D (xTys d) A s H locs ([(hs, .inr (2, [.ref h1, .ref h2, .ref h3, .ref h4, .ref h5, .int (G 5), .int (G 6), .int (G 7), .int (G 8), .int (G 9), .int (G 10), .int (G 11), .int (G 12), .int (G 13), .int (G 14), .int (G 15), .int (G 16)])), (h1, xI (d 0) 9 Nn), (h2, xI (d 0) 9 Hh_6), (h3, xI (d 0) 61 Mk), (h4, xI (d 1) 9 Sk)]) := by rw [eHh_6]; exact T
      replace hw := hw Hh_6 eHh_6
      refine lv_aload_n hx hb dX4_slides_28 rfl (lv_at hl 1 rfl) ?_
      refine x_getA (v := .ref h2) (ci := 2) C T (T.at0 0 rfl) rfl 1 (by decide) in_X4 q647 rfl dX4_slides_29 ?_
      refine lv_iload_n hx hb dX4_slides_32 rfl (lv_at hl 0 rfl) ?_
      refine lv_dup2_11 hx hb dX4_slides_33 rfl rfl ?_
      refine x_ialdE C T 0 (T.at0 2 rfl) rfl hw.1 rfl dX4_slides_34 ?_
      replace hw := hw.2
      refine lv_iconst (v := 1) hx hb dX4_slides_35 (by decide) ?_
      refine lv_iadd hx hb dX4_slides_36 ?_
      refine x_iast C T 2 0 rfl rfl hw.1 rfl dX4_slides_37 (fun H locs T => ?_)
      replace hw := hw.2
      obtain ⟨Hh_7, eHh_7⟩ : ∃ z : Nat → Int32, z = upd Hh_6 r_5.toNatClampNeg ((Hh_6 r_5.toNatClampNeg) + 1) := ⟨_, rfl⟩
      replace T : xT E D (xTys d) A s H locs ([(hs, .inr (2, [.ref h1, .ref h2, .ref h3, .ref h4, .ref h5, .int (G 5), .int (G 6), .int (G 7), .int (G 8), .int (G 9), .int (G 10), .int (G 11), .int (G 12), .int (G 13), .int (G 14), .int (G 15), .int (G 16)])), (h1, xI (d 0) 9 Nn), (h2, xI (d 0) 9 Hh_7), (h3, xI (d 0) 61 Mk), (h4, xI (d 1) 9 Sk)]) := by rw [eHh_7]; exact T
      replace hw := hw Hh_7 eHh_7
      obtain ⟨x1_8, ex1_8⟩ : ∃ z : Int32, z = x1 + 1 := ⟨_, rfl⟩
      replace hw := hw x1_8 ex1_8
      refine lv_iinc (v := x1_8) (lv' := [(1, .int x1_8), (3, .int r_5), (0, .ref hs), (2, .int x2)]) hx hb dX4_slides_38 hl (k := 2) rfl (by rw [ex1_8]; rfl) (by decide) rfl (fun ls hl => ?_)
      refine lv_aload_n hx hb dX4_slides_41 rfl (lv_at hl 2 rfl) ?_
      refine x_ki (X := [(hs, .inr (2, [.ref h1, .ref h2, .ref h3, .ref h4, .ref h5, .int (G 5), .int (G 6), .int (G 7), .int (G 8), .int (G 9), .int (G 10), .int (G 11), .int (G 12), .int (G 13), .int (G 14), .int (G 15), .int (G 16)])), (h1, xI (d 0) 9 Nn), (h2, xI (d 0) 9 Hh_7), (h3, xI (d 0) 61 Mk), (h4, xI (d 1) 9 Sk)]) (pl := []) (wc := [(hs, .inr (2, [.ref h1, .ref h2, .ref h3, .ref h4, .ref h5, .int (G 5), .int (G 6), .int (G 7), .int (G 8), .int (G 9), .int (G 10), .int (G 11), .int (G 12), .int (G 13), .int (G 14), .int (G 15), .int (G 16)])), (h1, xI (d 0) 9 Nn), (h2, xI (d 0) 9 Hh_7), (h3, xI (d 0) 61 Mk), (h4, xI (d 1) 9 Sk)]) (wr := []) C T [0, 1, 2, 3, 4] [] rfl rfl rfl (by decide) rfl (x_rV (As := []) (rest := []) C (x_preq hE T [0, 1, 2, 3, 4] rfl rfl (fun U hU hW => (x_envT (X := [(hs, .inr (2, [.ref h1, .ref h2, .ref h3, .ref h4, .ref h5, .int (G 5), .int (G 6), .int (G 7), .int (G 8), .int (G 9), .int (G 10), .int (G 11), .int (G 12), .int (G 13), .int (G 14), .int (G 15), .int (G 16)])), (h1, xI (d 0) 9 Nn), (h2, xI (d 0) 9 Hh_7), (h3, xI (d 0) 61 Mk), (h4, xI (d 1) 9 Sk)]) (pl := []) hE C T [0, 1, 2, 3, 4] rfl U hU hW)) _) (mtX4_firstToSlide l hE D d hs h1 h2 h3 h4 h5 G Nn Hh_7 Mk Sk H.size _ hw) (cwV 0 hts (lw_V q969 q971 qs13 q108 q972) rfl rfl rfl (by decide +kernel) ⟨Nat.le_of_ble_eq_true rfl, Nat.le_of_ble_eq_true rfl⟩) (x_recvA T (ci := 2) rfl (T.at0 0 rfl)) rfl hl.1 (lv_room (Nat.le_of_ble_eq_true rfl)) dX4_slides_42 ⟨(Nat.le_of_ble_eq_true rfl), (Nat.le_of_ble_eq_true rfl)⟩) (fun r u H locs hw T => ?_)
      obtain ⟨r_9, rfl⟩ : ∃ z, z = r := ⟨_, rfl⟩
      replace T : xT E D (xTys d) A s H locs ([(hs, .inr (2, [.ref h1, .ref h2, .ref h3, .ref h4, .ref h5, .int (G 5), .int (G 6), .int (G 7), .int (G 8), .int (G 9), .int (G 10), .int (G 11), .int (G 12), .int (G 13), .int (G 14), .int (G 15), .int (G 16)])), (h1, xI (d 0) 9 Nn), (h2, xI (d 0) 9 Hh_7), (h3, xI (d 0) 61 Mk), (h4, xI (d 1) 9 Sk)]) := T
      refine lv_istore_n (lv' := [(2, .int r_9), (1, .int x1_8), (3, .int r_5), (0, .ref hs)]) hx hb dX4_slides_45 rfl hl (by decide) rfl (fun ls hl => ?_)
      refine lv_goto (tgt := 7) hx hb dX4_slides_46 (by decide) ?_
      exact ih x1_8 r_9 G Hh_7 hw _ _ T _ (lv_sub hl [3, 1, 0] rfl)
set_option maxHeartbeats 4000000 in
set_option maxRecDepth 100000 in
theorem mtX4_slides (l : Launch) {κ : xK} {E : xEnv} (hE : xStable κ E) (D : va_G) (d : Nat → ClassId) (hs h1 h2 h3 h4 h5 : Nat) (G : Nat → Int32) (Nn : Nat → Int32) (Hh : Nat → Int32) (Mk : Nat → Int32) (Sk : Nat → Int32) (sz : Nat) (post : Int32 → (Nat → Int32) → (Nat → Int32) → Prop) (hw : wpX4_slides post G Nn Hh Mk Sk) : Met l yX4_slides (ws_ yX4_slides cX4_slides 4 (some .int)) ({ frames := 5, cells := 0, slots := 0, locals := 84 } : Room) (xPc E D (xTys d) ([(hs, .inr (2, [.ref h1, .ref h2, .ref h3, .ref h4, .ref h5, .int (G 5), .int (G 6), .int (G 7), .int (G 8), .int (G 9), .int (G 10), .int (G 11), .int (G 12), .int (G 13), .int (G 14), .int (G 15), .int (G 16)])), (h1, xI (d 0) 9 Nn), (h2, xI (d 0) 9 Hh), (h3, xI (d 0) 61 Mk), (h4, xI (d 1) 9 Sk)]) sz [.ref hs]) ((fun A : Nat → Prop => va_Qi (fun (r : Int32) (u : (Nat → Int32) × (Nat → Int32)) => post r u.1 u.2) (xB D (xTys d) A (fun (u : (Nat → Int32) × (Nat → Int32)) => [(hs, .inr (2, [.ref h1, .ref h2, .ref h3, .ref h4, .ref h5, .int (u.2 5), .int (u.2 6), .int (u.2 7), .int (u.2 8), .int (u.2 9), .int (u.2 10), .int (u.2 11), .int (u.2 12), .int (u.2 13), .int (u.2 14), .int (u.2 15), .int (u.2 16)])), (h1, xI (d 0) 9 Nn), (h2, xI (d 0) 9 u.1), (h3, xI (d 0) 61 Mk), (h4, xI (d 1) 9 Sk)])) A) (va_A ([(hs, .inr (2, [.ref h1, .ref h2, .ref h3, .ref h4, .ref h5, .int (G 5), .int (G 6), .int (G 7), .int (G 8), .int (G 9), .int (G 10), .int (G 11), .int (G 12), .int (G 13), .int (G 14), .int (G 15), .int (G 16)])), (h1, xI (d 0) 9 Nn), (h2, xI (d 0) 9 Hh), (h3, xI (d 0) 61 Mk), (h4, xI (d 1) 9 Sk)]) sz)) 0 0 (va_A ([(hs, .inr (2, [.ref h1, .ref h2, .ref h3, .ref h4, .ref h5, .int (G 5), .int (G 6), .int (G 7), .int (G 8), .int (G 9), .int (G 10), .int (G 11), .int (G 12), .int (G 13), .int (G 14), .int (G 15), .int (G 16)])), (h1, xI (d 0) 9 Nn), (h2, xI (d 0) 9 Hh), (h3, xI (d 0) 61 Mk), (h4, xI (d 1) 9 Sk)]) sz) := by
  refine x_start (QcA := fun A => va_Qi (fun (r : Int32) (u : (Nat → Int32) × (Nat → Int32)) => post r u.1 u.2) (xB D (xTys d) A (fun (u : (Nat → Int32) × (Nat → Int32)) => [(hs, .inr (2, [.ref h1, .ref h2, .ref h3, .ref h4, .ref h5, .int (u.2 5), .int (u.2 6), .int (u.2 7), .int (u.2 8), .int (u.2 9), .int (u.2 10), .int (u.2 11), .int (u.2 12), .int (u.2 13), .int (u.2 14), .int (u.2 15), .int (u.2 16)])), (h1, xI (d 0) 9 Nn), (h2, xI (d 0) 9 u.1), (h3, xI (d 0) 61 Mk), (h4, xI (d 1) 9 Sk)])) A) hE (by decide) (Nat.le_of_ble_eq_true rfl) ?_
  intro p e s m below meth c A C H locs hsz T ls hl
  obtain ⟨hx, hb, hr, hlk, hml, hown, hts, hA⟩ := id C
  replace hl : lv_has ls 4 [(0, .ref hs)] := hl
  unfold wpX4_slides at hw
  refine lv_iconst (v := 0) hx hb dX4_slides_0 (by decide) ?_
  refine lv_istore_n (lv' := [(1, .int 0), (0, .ref hs)]) hx hb dX4_slides_1 rfl hl (by decide) rfl (fun ls hl => ?_)
  refine lv_aload_n hx hb dX4_slides_2 rfl (lv_at hl 1 rfl) ?_
  refine x_ki (X := [(hs, .inr (2, [.ref h1, .ref h2, .ref h3, .ref h4, .ref h5, .int (G 5), .int (G 6), .int (G 7), .int (G 8), .int (G 9), .int (G 10), .int (G 11), .int (G 12), .int (G 13), .int (G 14), .int (G 15), .int (G 16)])), (h1, xI (d 0) 9 Nn), (h2, xI (d 0) 9 Hh), (h3, xI (d 0) 61 Mk), (h4, xI (d 1) 9 Sk)]) (pl := []) (wc := [(hs, .inr (2, [.ref h1, .ref h2, .ref h3, .ref h4, .ref h5, .int (G 5), .int (G 6), .int (G 7), .int (G 8), .int (G 9), .int (G 10), .int (G 11), .int (G 12), .int (G 13), .int (G 14), .int (G 15), .int (G 16)])), (h1, xI (d 0) 9 Nn), (h2, xI (d 0) 9 Hh), (h3, xI (d 0) 61 Mk), (h4, xI (d 1) 9 Sk)]) (wr := []) C T [0, 1, 2, 3, 4] [] rfl rfl rfl (by decide) rfl (x_rV (As := []) (rest := []) C (x_preq hE T [0, 1, 2, 3, 4] rfl rfl (fun U hU hW => (x_envT (X := [(hs, .inr (2, [.ref h1, .ref h2, .ref h3, .ref h4, .ref h5, .int (G 5), .int (G 6), .int (G 7), .int (G 8), .int (G 9), .int (G 10), .int (G 11), .int (G 12), .int (G 13), .int (G 14), .int (G 15), .int (G 16)])), (h1, xI (d 0) 9 Nn), (h2, xI (d 0) 9 Hh), (h3, xI (d 0) 61 Mk), (h4, xI (d 1) 9 Sk)]) (pl := []) hE C T [0, 1, 2, 3, 4] rfl U hU hW)) _) (mtX4_firstToSlide l hE D d hs h1 h2 h3 h4 h5 G Nn Hh Mk Sk H.size _ hw) (cwV 0 hts (lw_V q969 q971 qs13 q108 q972) rfl rfl rfl (by decide +kernel) ⟨Nat.le_of_ble_eq_true rfl, Nat.le_of_ble_eq_true rfl⟩) (x_recvA T (ci := 2) rfl (T.at0 0 rfl)) rfl hl.1 (lv_room (Nat.le_of_ble_eq_true rfl)) dX4_slides_3 ⟨(Nat.le_of_ble_eq_true rfl), (Nat.le_of_ble_eq_true rfl)⟩) (fun r u H locs hw T => ?_)
  obtain ⟨r_1, rfl⟩ : ∃ z, z = r := ⟨_, rfl⟩
  replace T : xT E D (xTys d) A s H locs ([(hs, .inr (2, [.ref h1, .ref h2, .ref h3, .ref h4, .ref h5, .int (G 5), .int (G 6), .int (G 7), .int (G 8), .int (G 9), .int (G 10), .int (G 11), .int (G 12), .int (G 13), .int (G 14), .int (G 15), .int (G 16)])), (h1, xI (d 0) 9 Nn), (h2, xI (d 0) 9 Hh), (h3, xI (d 0) 61 Mk), (h4, xI (d 1) 9 Sk)]) := T
  refine lv_istore_n (lv' := [(2, .int r_1), (1, .int 0), (0, .ref hs)]) hx hb dX4_slides_6 rfl hl (by decide) rfl (fun ls hl => ?_)
  obtain ⟨fu7, hw⟩ := hw
  exact wkX4_slides_7 l hE D d hs h1 h2 h3 h4 h5 post C  Nn Mk Sk fu7 0 r_1 G Hh hw _ _ T _ (lv_sub hl [2, 1, 0] rfl)
def wpX4_hangs (post : Bool → Prop) (G : Nat → Int32) (Nn : Nat → Int32) (Hh : Nat → Int32) (Mk : Nat → Int32) (Sk : Nat → Int32) (p1 : Int32) : Prop := (vp_in p1 9 ∧ (((Sk p1.toNatClampNeg) = 0 → (post false)) ∧ (¬ (Sk p1.toNatClampNeg) = 0 → (wpX4_slideTo (fun r_2 => ((r_2 = (-1) → (post false)) ∧ (¬ r_2 = (-1) → (post true)))) G Nn Hh Mk Sk p1))))
set_option maxHeartbeats 4000000 in
set_option maxRecDepth 100000 in
theorem mtX4_hangs (l : Launch) {κ : xK} {E : xEnv} (hE : xStable κ E) (D : va_G) (d : Nat → ClassId) (hs h1 h2 h3 h4 h5 : Nat) (G : Nat → Int32) (Nn : Nat → Int32) (Hh : Nat → Int32) (Mk : Nat → Int32) (Sk : Nat → Int32) (p1 : Int32) (sz : Nat) (post : Bool → Prop) (hw : wpX4_hangs post G Nn Hh Mk Sk p1) : Met l yX4_hangs (ws_ yX4_hangs cX4_hangs 2 (some .boolean)) ({ frames := 4, cells := 0, slots := 0, locals := 63 } : Room) (xPc E D (xTys d) ([(hs, .inr (2, [.ref h1, .ref h2, .ref h3, .ref h4, .ref h5, .int (G 5), .int (G 6), .int (G 7), .int (G 8), .int (G 9), .int (G 10), .int (G 11), .int (G 12), .int (G 13), .int (G 14), .int (G 15), .int (G 16)])), (h1, xI (d 0) 9 Nn), (h2, xI (d 0) 9 Hh), (h3, xI (d 0) 61 Mk), (h4, xI (d 1) 9 Sk)]) sz [.ref hs, .int p1]) ((fun A : Nat → Prop => va_Qi (fun (r : Int32) (u : Unit) => ∃ b : Bool, r = bI b ∧ post b) (xB D (xTys d) A (fun (u : Unit) => [(hs, .inr (2, [.ref h1, .ref h2, .ref h3, .ref h4, .ref h5, .int (G 5), .int (G 6), .int (G 7), .int (G 8), .int (G 9), .int (G 10), .int (G 11), .int (G 12), .int (G 13), .int (G 14), .int (G 15), .int (G 16)])), (h1, xI (d 0) 9 Nn), (h2, xI (d 0) 9 Hh), (h3, xI (d 0) 61 Mk), (h4, xI (d 1) 9 Sk)])) A) (va_A ([(hs, .inr (2, [.ref h1, .ref h2, .ref h3, .ref h4, .ref h5, .int (G 5), .int (G 6), .int (G 7), .int (G 8), .int (G 9), .int (G 10), .int (G 11), .int (G 12), .int (G 13), .int (G 14), .int (G 15), .int (G 16)])), (h1, xI (d 0) 9 Nn), (h2, xI (d 0) 9 Hh), (h3, xI (d 0) 61 Mk), (h4, xI (d 1) 9 Sk)]) sz)) 0 0 (va_A ([(hs, .inr (2, [.ref h1, .ref h2, .ref h3, .ref h4, .ref h5, .int (G 5), .int (G 6), .int (G 7), .int (G 8), .int (G 9), .int (G 10), .int (G 11), .int (G 12), .int (G 13), .int (G 14), .int (G 15), .int (G 16)])), (h1, xI (d 0) 9 Nn), (h2, xI (d 0) 9 Hh), (h3, xI (d 0) 61 Mk), (h4, xI (d 1) 9 Sk)]) sz) := by
  refine x_start (QcA := fun A => va_Qi (fun (r : Int32) (u : Unit) => ∃ b : Bool, r = bI b ∧ post b) (xB D (xTys d) A (fun (u : Unit) => [(hs, .inr (2, [.ref h1, .ref h2, .ref h3, .ref h4, .ref h5, .int (G 5), .int (G 6), .int (G 7), .int (G 8), .int (G 9), .int (G 10), .int (G 11), .int (G 12), .int (G 13), .int (G 14), .int (G 15), .int (G 16)])), (h1, xI (d 0) 9 Nn), (h2, xI (d 0) 9 Hh), (h3, xI (d 0) 61 Mk), (h4, xI (d 1) 9 Sk)])) A) hE (by decide) (Nat.le_of_ble_eq_true rfl) ?_
  intro p e s m below meth c A C H locs hsz T ls hl
  obtain ⟨hx, hb, hr, hlk, hml, hown, hts, hA⟩ := id C
  replace hl : lv_has ls 2 [(0, .ref hs), (1, .int p1)] := hl
  unfold wpX4_hangs at hw
  refine lv_aload_n hx hb dX4_hangs_0 rfl (lv_at hl 0 rfl) ?_
  refine x_getA (v := .ref h4) (ci := 2) C T (T.at0 0 rfl) rfl 3 (by decide) in_X4 q652 rfl dX4_hangs_1 ?_
  refine lv_iload_n hx hb dX4_hangs_4 rfl (lv_at hl 1 rfl) ?_
  refine x_zaldE C T 1 (T.at0 4 rfl) rfl hw.1 rfl dX4_hangs_5 ?_
  replace hw := hw.2
  refine lv_if_eq (tgt := 22) hx hb dX4_hangs_6 (by decide) (fun c_1 => ?_) (fun c_1 => ?_)
  · replace hw := hw.1 c_1
    refine lv_iconst (v := 0) hx hb dX4_hangs_22 (by decide) ?_
    exact x_zret (b := false) (u := ()) C T rfl hw (Nat.le_of_ble_eq_true rfl) (Nat.le_of_ble_eq_true rfl) dX4_hangs_23
  · replace hw := hw.2 c_1
    refine lv_aload_n hx hb dX4_hangs_9 rfl (lv_at hl 0 rfl) ?_
    refine lv_iload_n hx hb dX4_hangs_10 rfl (lv_at hl 1 rfl) ?_
    refine x_ki (X := [(hs, .inr (2, [.ref h1, .ref h2, .ref h3, .ref h4, .ref h5, .int (G 5), .int (G 6), .int (G 7), .int (G 8), .int (G 9), .int (G 10), .int (G 11), .int (G 12), .int (G 13), .int (G 14), .int (G 15), .int (G 16)])), (h1, xI (d 0) 9 Nn), (h2, xI (d 0) 9 Hh), (h3, xI (d 0) 61 Mk), (h4, xI (d 1) 9 Sk)]) (pl := []) (wc := [(hs, .inr (2, [.ref h1, .ref h2, .ref h3, .ref h4, .ref h5, .int (G 5), .int (G 6), .int (G 7), .int (G 8), .int (G 9), .int (G 10), .int (G 11), .int (G 12), .int (G 13), .int (G 14), .int (G 15), .int (G 16)])), (h1, xI (d 0) 9 Nn), (h2, xI (d 0) 9 Hh), (h3, xI (d 0) 61 Mk), (h4, xI (d 1) 9 Sk)]) (wr := []) C T [0, 1, 2, 3, 4] [] rfl rfl rfl (by decide) rfl (x_rV (As := [.int p1]) (rest := []) C (x_preq hE T [0, 1, 2, 3, 4] rfl rfl (fun U hU hW => (x_envT (X := [(hs, .inr (2, [.ref h1, .ref h2, .ref h3, .ref h4, .ref h5, .int (G 5), .int (G 6), .int (G 7), .int (G 8), .int (G 9), .int (G 10), .int (G 11), .int (G 12), .int (G 13), .int (G 14), .int (G 15), .int (G 16)])), (h1, xI (d 0) 9 Nn), (h2, xI (d 0) 9 Hh), (h3, xI (d 0) 61 Mk), (h4, xI (d 1) 9 Sk)]) (pl := []) hE C T [0, 1, 2, 3, 4] rfl U hU hW)) _) (mtX4_slideTo l hE D d hs h1 h2 h3 h4 h5 G Nn Hh Mk Sk p1 H.size _ hw) (cwV 1 hts (lw_V q974 q975 q976 q108 q977) rfl rfl rfl (by decide +kernel) ⟨Nat.le_of_ble_eq_true rfl, Nat.le_of_ble_eq_true rfl⟩) (x_recvA T (ci := 2) rfl (T.at0 0 rfl)) rfl hl.1 (lv_room (Nat.le_of_ble_eq_true rfl)) dX4_hangs_11 ⟨(Nat.le_of_ble_eq_true rfl), (Nat.le_of_ble_eq_true rfl)⟩) (fun r u H locs hw T => ?_)
    obtain ⟨r_2, rfl⟩ : ∃ z, z = r := ⟨_, rfl⟩
    replace T : xT E D (xTys d) A s H locs ([(hs, .inr (2, [.ref h1, .ref h2, .ref h3, .ref h4, .ref h5, .int (G 5), .int (G 6), .int (G 7), .int (G 8), .int (G 9), .int (G 10), .int (G 11), .int (G 12), .int (G 13), .int (G 14), .int (G 15), .int (G 16)])), (h1, xI (d 0) 9 Nn), (h2, xI (d 0) 9 Hh), (h3, xI (d 0) 61 Mk), (h4, xI (d 1) 9 Sk)]) := T
    refine lv_iconst (v := (-1)) hx hb dX4_hangs_14 (by decide) ?_
    refine lv_icmp_eq (tgt := 22) hx hb dX4_hangs_15 (by decide) (fun c_3 => ?_) (fun c_3 => ?_)
    · replace hw := hw.1 c_3
      refine lv_iconst (v := 0) hx hb dX4_hangs_22 (by decide) ?_
      exact x_zret (b := false) (u := ()) C T rfl hw (Nat.le_of_ble_eq_true rfl) (Nat.le_of_ble_eq_true rfl) dX4_hangs_23
    · replace hw := hw.2 c_3
      refine lv_iconst (v := 1) hx hb dX4_hangs_18 (by decide) ?_
      refine lv_goto (tgt := 23) hx hb dX4_hangs_19 (by decide) ?_
      exact x_zret (b := true) (u := ()) C T rfl hw (Nat.le_of_ble_eq_true rfl) (Nat.le_of_ble_eq_true rfl) dX4_hangs_23
def wpX4_fillsOne (post : Bool → (Nat → Int32) → (Nat → Int32) → Prop) (G : Nat → Int32) (Nn : Nat → Int32) (Hh : Nat → Int32) (Mk : Nat → Int32) (Sk : Nat → Int32) (p1 : Int32) : Prop := (vp_in p1 9 ∧ (wpX4_depth (fun r_1 => (((Hh p1.toNatClampNeg) = r_1 → (∀ f_11 : Int32, f_11 = (G 11) + 1 → (∀ G_12 : Nat → Int32, G_12 = upd G 11 f_11 → (post false Hh G_12)))) ∧ (¬ (Hh p1.toNatClampNeg) = r_1 → (vp_in p1 9 ∧ (vp_in p1 9 ∧ (∀ Hh_3 : Nat → Int32, Hh_3 = upd Hh p1.toNatClampNeg ((Hh p1.toNatClampNeg) + 1) → (∀ f_4 : Int32, f_4 = (G 10) + 1 → (∀ G_5 : Nat → Int32, G_5 = upd G 10 f_4 → (∀ f_6 : Int32, f_6 = (if ((G_5 5) + 1) < 99 then ((G_5 5) + 1) else 99) → (∀ G_7 : Nat → Int32, G_7 = upd G_5 5 f_6 → (wpX4_slides (fun r_8 Hh_9 G_10 => (post true Hh_9 G_10)) G_7 Nn Hh_3 Mk Sk))))))))))) Nn))
set_option maxHeartbeats 4000000 in
set_option maxRecDepth 100000 in
theorem mtX4_fillsOne (l : Launch) {κ : xK} {E : xEnv} (hE : xStable κ E) (D : va_G) (d : Nat → ClassId) (hs h1 h2 h3 h4 h5 : Nat) (G : Nat → Int32) (Nn : Nat → Int32) (Hh : Nat → Int32) (Mk : Nat → Int32) (Sk : Nat → Int32) (p1 : Int32) (sz : Nat) (post : Bool → (Nat → Int32) → (Nat → Int32) → Prop) (hw : wpX4_fillsOne post G Nn Hh Mk Sk p1) : Met l yX4_fillsOne (ws_ yX4_fillsOne cX4_fillsOne 3 (some .boolean)) ({ frames := 6, cells := 0, slots := 0, locals := 107 } : Room) (xPc E D (xTys d) ([(hs, .inr (2, [.ref h1, .ref h2, .ref h3, .ref h4, .ref h5, .int (G 5), .int (G 6), .int (G 7), .int (G 8), .int (G 9), .int (G 10), .int (G 11), .int (G 12), .int (G 13), .int (G 14), .int (G 15), .int (G 16)])), (h1, xI (d 0) 9 Nn), (h2, xI (d 0) 9 Hh), (h3, xI (d 0) 61 Mk), (h4, xI (d 1) 9 Sk)]) sz [.ref hs, .int p1]) ((fun A : Nat → Prop => va_Qi (fun (r : Int32) (u : (Nat → Int32) × (Nat → Int32)) => ∃ b : Bool, r = bI b ∧ post b u.1 u.2) (xB D (xTys d) A (fun (u : (Nat → Int32) × (Nat → Int32)) => [(hs, .inr (2, [.ref h1, .ref h2, .ref h3, .ref h4, .ref h5, .int (u.2 5), .int (u.2 6), .int (u.2 7), .int (u.2 8), .int (u.2 9), .int (u.2 10), .int (u.2 11), .int (u.2 12), .int (u.2 13), .int (u.2 14), .int (u.2 15), .int (u.2 16)])), (h1, xI (d 0) 9 Nn), (h2, xI (d 0) 9 u.1), (h3, xI (d 0) 61 Mk), (h4, xI (d 1) 9 Sk)])) A) (va_A ([(hs, .inr (2, [.ref h1, .ref h2, .ref h3, .ref h4, .ref h5, .int (G 5), .int (G 6), .int (G 7), .int (G 8), .int (G 9), .int (G 10), .int (G 11), .int (G 12), .int (G 13), .int (G 14), .int (G 15), .int (G 16)])), (h1, xI (d 0) 9 Nn), (h2, xI (d 0) 9 Hh), (h3, xI (d 0) 61 Mk), (h4, xI (d 1) 9 Sk)]) sz)) 0 0 (va_A ([(hs, .inr (2, [.ref h1, .ref h2, .ref h3, .ref h4, .ref h5, .int (G 5), .int (G 6), .int (G 7), .int (G 8), .int (G 9), .int (G 10), .int (G 11), .int (G 12), .int (G 13), .int (G 14), .int (G 15), .int (G 16)])), (h1, xI (d 0) 9 Nn), (h2, xI (d 0) 9 Hh), (h3, xI (d 0) 61 Mk), (h4, xI (d 1) 9 Sk)]) sz) := by
  refine x_start (QcA := fun A => va_Qi (fun (r : Int32) (u : (Nat → Int32) × (Nat → Int32)) => ∃ b : Bool, r = bI b ∧ post b u.1 u.2) (xB D (xTys d) A (fun (u : (Nat → Int32) × (Nat → Int32)) => [(hs, .inr (2, [.ref h1, .ref h2, .ref h3, .ref h4, .ref h5, .int (u.2 5), .int (u.2 6), .int (u.2 7), .int (u.2 8), .int (u.2 9), .int (u.2 10), .int (u.2 11), .int (u.2 12), .int (u.2 13), .int (u.2 14), .int (u.2 15), .int (u.2 16)])), (h1, xI (d 0) 9 Nn), (h2, xI (d 0) 9 u.1), (h3, xI (d 0) 61 Mk), (h4, xI (d 1) 9 Sk)])) A) hE (by decide) (Nat.le_of_ble_eq_true rfl) ?_
  intro p e s m below meth c A C H locs hsz T ls hl
  obtain ⟨hx, hb, hr, hlk, hml, hown, hts, hA⟩ := id C
  replace hl : lv_has ls 3 [(0, .ref hs), (1, .int p1)] := hl
  unfold wpX4_fillsOne at hw
  refine lv_aload_n hx hb dX4_fillsOne_0 rfl (lv_at hl 0 rfl) ?_
  refine x_getA (v := .ref h2) (ci := 2) C T (T.at0 0 rfl) rfl 1 (by decide) in_X4 q647 rfl dX4_fillsOne_1 ?_
  refine lv_iload_n hx hb dX4_fillsOne_4 rfl (lv_at hl 1 rfl) ?_
  refine x_ialdE C T 0 (T.at0 2 rfl) rfl hw.1 rfl dX4_fillsOne_5 ?_
  replace hw := hw.2
  refine lv_aload_n hx hb dX4_fillsOne_6 rfl (lv_at hl 0 rfl) ?_
  refine x_ki (X := [(hs, .inr (2, [.ref h1, .ref h2, .ref h3, .ref h4, .ref h5, .int (G 5), .int (G 6), .int (G 7), .int (G 8), .int (G 9), .int (G 10), .int (G 11), .int (G 12), .int (G 13), .int (G 14), .int (G 15), .int (G 16)])), (h1, xI (d 0) 9 Nn), (h2, xI (d 0) 9 Hh), (h3, xI (d 0) 61 Mk), (h4, xI (d 1) 9 Sk)]) (pl := []) (wc := [(hs, .inr (2, [.ref h1, .ref h2, .ref h3, .ref h4, .ref h5, .int (G 5), .int (G 6), .int (G 7), .int (G 8), .int (G 9), .int (G 10), .int (G 11), .int (G 12), .int (G 13), .int (G 14), .int (G 15), .int (G 16)])), (h1, xI (d 0) 9 Nn), (h2, xI (d 0) 9 Hh), (h3, xI (d 0) 61 Mk), (h4, xI (d 1) 9 Sk)]) (wr := []) C T [0, 1, 2, 3, 4] [] rfl rfl rfl (by decide) rfl (x_rV (As := []) (rest := [.int (Hh p1.toNatClampNeg)]) C (x_preq hE T [0, 1, 2, 3, 4] rfl rfl (fun U hU hW => (x_envT (X := [(hs, .inr (2, [.ref h1, .ref h2, .ref h3, .ref h4, .ref h5, .int (G 5), .int (G 6), .int (G 7), .int (G 8), .int (G 9), .int (G 10), .int (G 11), .int (G 12), .int (G 13), .int (G 14), .int (G 15), .int (G 16)])), (h1, xI (d 0) 9 Nn), (h2, xI (d 0) 9 Hh), (h3, xI (d 0) 61 Mk), (h4, xI (d 1) 9 Sk)]) (pl := []) hE C T [0, 1, 2, 3, 4] rfl U hU hW)) _) (mtX4_depth l hE D d hs h1 h2 h3 h4 h5 G Nn Hh Mk Sk H.size _ hw) (cwV 0 hts (lw_V q963 q956 q957 q108 q958) rfl rfl rfl (by decide +kernel) ⟨Nat.le_of_ble_eq_true rfl, Nat.le_of_ble_eq_true rfl⟩) (x_recvA T (ci := 2) rfl (T.at0 0 rfl)) rfl hl.1 (lv_room (Nat.le_of_ble_eq_true rfl)) dX4_fillsOne_7 ⟨(Nat.le_of_ble_eq_true rfl), (Nat.le_of_ble_eq_true rfl)⟩) (fun r u H locs hw T => ?_)
  obtain ⟨r_1, rfl⟩ : ∃ z, z = r := ⟨_, rfl⟩
  replace T : xT E D (xTys d) A s H locs ([(hs, .inr (2, [.ref h1, .ref h2, .ref h3, .ref h4, .ref h5, .int (G 5), .int (G 6), .int (G 7), .int (G 8), .int (G 9), .int (G 10), .int (G 11), .int (G 12), .int (G 13), .int (G 14), .int (G 15), .int (G 16)])), (h1, xI (d 0) 9 Nn), (h2, xI (d 0) 9 Hh), (h3, xI (d 0) 61 Mk), (h4, xI (d 1) 9 Sk)]) := T
  refine lv_icmp_ne (tgt := 25) hx hb dX4_fillsOne_10 (by decide) (fun c_2 => ?_) (fun c_2 => ?_)
  · replace hw := hw.2 c_2
    refine lv_aload_n hx hb dX4_fillsOne_25 rfl (lv_at hl 0 rfl) ?_
    refine x_getA (v := .ref h2) (ci := 2) C T (T.at0 0 rfl) rfl 1 (by decide) in_X4 q647 rfl dX4_fillsOne_26 ?_
    refine lv_iload_n hx hb dX4_fillsOne_29 rfl (lv_at hl 1 rfl) ?_
    refine lv_dup2_11 hx hb dX4_fillsOne_30 rfl rfl ?_
    refine x_ialdE C T 0 (T.at0 2 rfl) rfl hw.1 rfl dX4_fillsOne_31 ?_
    replace hw := hw.2
    refine lv_iconst (v := 1) hx hb dX4_fillsOne_32 (by decide) ?_
    refine lv_iadd hx hb dX4_fillsOne_33 ?_
    refine x_iast C T 2 0 rfl rfl hw.1 rfl dX4_fillsOne_34 (fun H locs T => ?_)
    replace hw := hw.2
    obtain ⟨Hh_3, eHh_3⟩ : ∃ z : Nat → Int32, z = upd Hh p1.toNatClampNeg ((Hh p1.toNatClampNeg) + 1) := ⟨_, rfl⟩
    replace T : xT E D (xTys d) A s H locs ([(hs, .inr (2, [.ref h1, .ref h2, .ref h3, .ref h4, .ref h5, .int (G 5), .int (G 6), .int (G 7), .int (G 8), .int (G 9), .int (G 10), .int (G 11), .int (G 12), .int (G 13), .int (G 14), .int (G 15), .int (G 16)])), (h1, xI (d 0) 9 Nn), (h2, xI (d 0) 9 Hh_3), (h3, xI (d 0) 61 Mk), (h4, xI (d 1) 9 Sk)]) := by rw [eHh_3]; exact T
    replace hw := hw Hh_3 eHh_3
    refine lv_aload_n hx hb dX4_fillsOne_35 rfl (lv_at hl 0 rfl) ?_
    refine lv_dup hx hb dX4_fillsOne_36 rfl ?_
    refine x_getA (v := .int (G 10)) (ci := 2) C T (T.at0 0 rfl) rfl 10 (by decide) in_X4 q669 rfl dX4_fillsOne_37 ?_
    refine lv_iconst (v := 1) hx hb dX4_fillsOne_40 (by decide) ?_
    refine lv_iadd hx hb dX4_fillsOne_41 ?_
    refine lv_topi (fun f_4 ef_4 => ?_)
    replace hw := hw f_4 ef_4
    refine x_put (v := .int f_4) (ty := .int) C T tyX4 tyX4_ok nmX4 0 rfl rfl 10 (by decide) in_X4 q669 rfl (by decide +kernel) rfl rfl (Nat.le_of_ble_eq_true rfl) dX4_fillsOne_42 (fun H locs T => ?_)
    obtain ⟨G_5, eG_5⟩ : ∃ z : Nat → Int32, z = upd G 10 f_4 := ⟨_, rfl⟩
    replace T : xT E D (xTys d) A s H locs ([(hs, .inr (2, [.ref h1, .ref h2, .ref h3, .ref h4, .ref h5, .int (G_5 5), .int (G_5 6), .int (G_5 7), .int (G_5 8), .int (G_5 9), .int (G_5 10), .int (G_5 11), .int (G_5 12), .int (G_5 13), .int (G_5 14), .int (G_5 15), .int (G_5 16)])), (h1, xI (d 0) 9 Nn), (h2, xI (d 0) 9 Hh_3), (h3, xI (d 0) 61 Mk), (h4, xI (d 1) 9 Sk)]) := by rw [eG_5]; exact T
    replace hw := hw G_5 eG_5
    refine lv_aload_n hx hb dX4_fillsOne_45 rfl (lv_at hl 0 rfl) ?_
    refine lv_bipush (v := 99) hx hb dX4_fillsOne_46 (by decide) ?_
    refine lv_aload_n hx hb dX4_fillsOne_48 rfl (lv_at hl 0 rfl) ?_
    refine x_getA (v := .int (G_5 5)) (ci := 2) C T (T.at0 0 rfl) rfl 5 (by decide) in_X4 q658 rfl dX4_fillsOne_49 ?_
    refine lv_iconst (v := 1) hx hb dX4_fillsOne_52 (by decide) ?_
    refine lv_iadd hx hb dX4_fillsOne_53 ?_
    refine va_mmin hx hb (hml.trans hl.1.symm) hown (hts _ q964) (hts _ q454) (hts _ q116) (hts _ q455) (Nat.le_of_ble_eq_true rfl) (Nat.le_of_ble_eq_true rfl) (Nat.le_of_ble_eq_true rfl) (Nat.le_of_ble_eq_true rfl) dX4_fillsOne_54 ?_
    refine lv_topi (fun f_6 ef_6 => ?_)
    replace hw := hw f_6 ef_6
    refine x_put (v := .int f_6) (ty := .int) C T tyX4 tyX4_ok nmX4 0 rfl rfl 5 (by decide) in_X4 q658 rfl (by decide +kernel) rfl rfl (Nat.le_of_ble_eq_true rfl) dX4_fillsOne_57 (fun H locs T => ?_)
    obtain ⟨G_7, eG_7⟩ : ∃ z : Nat → Int32, z = upd G_5 5 f_6 := ⟨_, rfl⟩
    replace T : xT E D (xTys d) A s H locs ([(hs, .inr (2, [.ref h1, .ref h2, .ref h3, .ref h4, .ref h5, .int (G_7 5), .int (G_7 6), .int (G_7 7), .int (G_7 8), .int (G_7 9), .int (G_7 10), .int (G_7 11), .int (G_7 12), .int (G_7 13), .int (G_7 14), .int (G_7 15), .int (G_7 16)])), (h1, xI (d 0) 9 Nn), (h2, xI (d 0) 9 Hh_3), (h3, xI (d 0) 61 Mk), (h4, xI (d 1) 9 Sk)]) := by rw [eG_7]; exact T
    replace hw := hw G_7 eG_7
    refine lv_aload_n hx hb dX4_fillsOne_60 rfl (lv_at hl 0 rfl) ?_
    refine x_ki (X := [(hs, .inr (2, [.ref h1, .ref h2, .ref h3, .ref h4, .ref h5, .int (G_7 5), .int (G_7 6), .int (G_7 7), .int (G_7 8), .int (G_7 9), .int (G_7 10), .int (G_7 11), .int (G_7 12), .int (G_7 13), .int (G_7 14), .int (G_7 15), .int (G_7 16)])), (h1, xI (d 0) 9 Nn), (h2, xI (d 0) 9 Hh_3), (h3, xI (d 0) 61 Mk), (h4, xI (d 1) 9 Sk)]) (pl := []) (wc := [(hs, .inr (2, [.ref h1, .ref h2, .ref h3, .ref h4, .ref h5, .int (G_7 5), .int (G_7 6), .int (G_7 7), .int (G_7 8), .int (G_7 9), .int (G_7 10), .int (G_7 11), .int (G_7 12), .int (G_7 13), .int (G_7 14), .int (G_7 15), .int (G_7 16)])), (h1, xI (d 0) 9 Nn), (h2, xI (d 0) 9 Hh_3), (h3, xI (d 0) 61 Mk), (h4, xI (d 1) 9 Sk)]) (wr := []) C T [0, 1, 2, 3, 4] [] rfl rfl rfl (by decide) rfl (x_rV (As := []) (rest := []) C (x_preq hE T [0, 1, 2, 3, 4] rfl rfl (fun U hU hW => (x_envT (X := [(hs, .inr (2, [.ref h1, .ref h2, .ref h3, .ref h4, .ref h5, .int (G_7 5), .int (G_7 6), .int (G_7 7), .int (G_7 8), .int (G_7 9), .int (G_7 10), .int (G_7 11), .int (G_7 12), .int (G_7 13), .int (G_7 14), .int (G_7 15), .int (G_7 16)])), (h1, xI (d 0) 9 Nn), (h2, xI (d 0) 9 Hh_3), (h3, xI (d 0) 61 Mk), (h4, xI (d 1) 9 Sk)]) (pl := []) hE C T [0, 1, 2, 3, 4] rfl U hU hW)) _) (mtX4_slides l hE D d hs h1 h2 h3 h4 h5 G_7 Nn Hh_3 Mk Sk H.size _ hw) (cwV 0 hts (lw_V q965 q966 q967 q108 q968) rfl rfl rfl (by decide +kernel) ⟨Nat.le_of_ble_eq_true rfl, Nat.le_of_ble_eq_true rfl⟩) (x_recvA T (ci := 2) rfl (T.at0 0 rfl)) rfl hl.1 (lv_room (Nat.le_of_ble_eq_true rfl)) dX4_fillsOne_61 ⟨(Nat.le_of_ble_eq_true rfl), (Nat.le_of_ble_eq_true rfl)⟩) (fun r u H locs hw T => ?_)
    obtain ⟨r_8, rfl⟩ : ∃ z, z = r := ⟨_, rfl⟩
    obtain ⟨Hh_9, G_10⟩ := u
    replace T : xT E D (xTys d) A s H locs ([(hs, .inr (2, [.ref h1, .ref h2, .ref h3, .ref h4, .ref h5, .int (G_10 5), .int (G_10 6), .int (G_10 7), .int (G_10 8), .int (G_10 9), .int (G_10 10), .int (G_10 11), .int (G_10 12), .int (G_10 13), .int (G_10 14), .int (G_10 15), .int (G_10 16)])), (h1, xI (d 0) 9 Nn), (h2, xI (d 0) 9 Hh_9), (h3, xI (d 0) 61 Mk), (h4, xI (d 1) 9 Sk)]) := T
    refine lv_istore_n (lv' := [(2, .int r_8), (0, .ref hs), (1, .int p1)]) hx hb dX4_fillsOne_64 rfl hl (by decide) rfl (fun ls hl => ?_)
    refine lv_iconst (v := 1) hx hb dX4_fillsOne_65 (by decide) ?_
    exact x_zret (b := true) (u := (Hh_9, G_10)) C T rfl hw (Nat.le_of_ble_eq_true rfl) (Nat.le_of_ble_eq_true rfl) dX4_fillsOne_66
  · replace hw := hw.1 c_2
    refine lv_aload_n hx hb dX4_fillsOne_13 rfl (lv_at hl 0 rfl) ?_
    refine lv_dup hx hb dX4_fillsOne_14 rfl ?_
    refine x_getA (v := .int (G 11)) (ci := 2) C T (T.at0 0 rfl) rfl 11 (by decide) in_X4 q671 rfl dX4_fillsOne_15 ?_
    refine lv_iconst (v := 1) hx hb dX4_fillsOne_18 (by decide) ?_
    refine lv_iadd hx hb dX4_fillsOne_19 ?_
    refine lv_topi (fun f_11 ef_11 => ?_)
    replace hw := hw f_11 ef_11
    refine x_put (v := .int f_11) (ty := .int) C T tyX4 tyX4_ok nmX4 0 rfl rfl 11 (by decide) in_X4 q671 rfl (by decide +kernel) rfl rfl (Nat.le_of_ble_eq_true rfl) dX4_fillsOne_20 (fun H locs T => ?_)
    obtain ⟨G_12, eG_12⟩ : ∃ z : Nat → Int32, z = upd G 11 f_11 := ⟨_, rfl⟩
    replace T : xT E D (xTys d) A s H locs ([(hs, .inr (2, [.ref h1, .ref h2, .ref h3, .ref h4, .ref h5, .int (G_12 5), .int (G_12 6), .int (G_12 7), .int (G_12 8), .int (G_12 9), .int (G_12 10), .int (G_12 11), .int (G_12 12), .int (G_12 13), .int (G_12 14), .int (G_12 15), .int (G_12 16)])), (h1, xI (d 0) 9 Nn), (h2, xI (d 0) 9 Hh), (h3, xI (d 0) 61 Mk), (h4, xI (d 1) 9 Sk)]) := by rw [eG_12]; exact T
    replace hw := hw G_12 eG_12
    refine lv_iconst (v := 0) hx hb dX4_fillsOne_23 (by decide) ?_
    exact x_zret (b := false) (u := (Hh, G_12)) C T rfl hw (Nat.le_of_ble_eq_true rfl) (Nat.le_of_ble_eq_true rfl) dX4_fillsOne_24
def wX4_fills_5 (post : Int32 → (Nat → Int32) → (Nat → Int32) → Prop) (x1 : Int32) (x2 : Int32) (Nn : Nat → Int32) (Mk : Nat → Int32) (Sk : Nat → Int32) : Nat → Int32 → Int32 → (Nat → Int32) → (Nat → Int32) → Prop
  | 0 => fun _ _ _ _ => False
  | k9 + 1 => fun x3 x4 G Hh => ((x2 ≤ x4 → (post x3 Hh G)) ∧ (¬ x2 ≤ x4 → (wpX4_fillsOne (fun b_2 Hh_3 G_4 => (wpX1_one (fun r_5 => (∀ x3_6 : Int32, x3_6 = x3 + r_5 → (∀ x4_7 : Int32, x4_7 = x4 + 1 → (wX4_fills_5 post x1 x2 Nn Mk Sk k9 x3_6 x4_7 G_4 Hh_3)))) (bI b_2))) G Nn Hh Mk Sk x1)))
def wpX4_fills (post : Int32 → (Nat → Int32) → (Nat → Int32) → Prop) (G : Nat → Int32) (Nn : Nat → Int32) (Hh : Nat → Int32) (Mk : Nat → Int32) (Sk : Nat → Int32) (p1 : Int32) (p2 : Int32) : Prop := (∃ fu5 : Nat, wX4_fills_5 post p1 p2 Nn Mk Sk fu5 0 0 G Hh)
set_option maxHeartbeats 4000000 in
set_option maxRecDepth 100000 in
theorem wkX4_fills_5 (l : Launch) {κ : xK} {E : xEnv} (hE : xStable κ E) (D : va_G) (d : Nat → ClassId) (hs h1 h2 h3 h4 h5 : Nat) (post : Int32 → (Nat → Int32) → (Nat → Int32) → Prop) {p : Program} {e : Env} {s : State} {m : MethodId} {args : Array Value} {below : List Frame} {meth : Method} {c : Code} {A : Nat → Prop} (C : xC RX4 cX4_fills 5 (some .int) p s m args meth c A) (x1 : Int32) (x2 : Int32) (Nn : Nat → Int32) (Mk : Nat → Int32) (Sk : Nat → Int32) : ∀ (k9 : Nat) (x3 : Int32) (x4 : Int32) (G : Nat → Int32) (Hh : Nat → Int32), wX4_fills_5 post x1 x2 Nn Mk Sk k9 x3 x4 G Hh → ∀ (H : Heap) (locs : List Loc), xT E D (xTys d) A s H locs ([(hs, .inr (2, [.ref h1, .ref h2, .ref h3, .ref h4, .ref h5, .int (G 5), .int (G 6), .int (G 7), .int (G 8), .int (G 9), .int (G 10), .int (G 11), .int (G 12), .int (G 13), .int (G 14), .int (G 15), .int (G 16)])), (h1, xI (d 0) 9 Nn), (h2, xI (d 0) 9 Hh), (h3, xI (d 0) 61 Mk), (h4, xI (d 1) 9 Sk)]) → ∀ ls : Array Slot, lv_has ls 5 [(0, .ref hs), (1, .int x1), (2, .int x2), (3, .int x3), (4, .int x4)] → W p l e (headSpec (ws_ yX4_fills cX4_fills 5 (some .int)) ({ frames := 7, cells := 0, slots := 0, locals := 129 } : Room)).room s m args below meth c H locs 0 0 (MQ below (va_Qi (fun (r : Int32) (u : (Nat → Int32) × (Nat → Int32)) => post r u.1 u.2) (xB D (xTys d) A (fun (u : (Nat → Int32) × (Nat → Int32)) => [(hs, .inr (2, [.ref h1, .ref h2, .ref h3, .ref h4, .ref h5, .int (u.2 5), .int (u.2 6), .int (u.2 7), .int (u.2 8), .int (u.2 9), .int (u.2 10), .int (u.2 11), .int (u.2 12), .int (u.2 13), .int (u.2 14), .int (u.2 15), .int (u.2 16)])), (h1, xI (d 0) 9 Nn), (h2, xI (d 0) 9 u.1), (h3, xI (d 0) 61 Mk), (h4, xI (d 1) 9 Sk)])) A) args s 0 0 A) (F0 m 5 ls []) := by
  obtain ⟨hx, hb, hr, hlk, hml, hown, hts, hA⟩ := id C
  intro k9
  induction k9 with
  | zero =>
    intro x3 x4 G Hh hw
    exact hw.elim
  | succ k9 ih =>
    intro x3 x4 G Hh hw H locs T ls hl
    rw [wX4_fills_5] at hw
    refine lv_iload hx hb dX4_fills_5 (lv_at hl 4 rfl) ?_
    refine lv_iload_n hx hb dX4_fills_7 rfl (lv_at hl 2 rfl) ?_
    refine lv_icmp_ge (tgt := 28) hx hb dX4_fills_8 (by decide) (fun c_1 => ?_) (fun c_1 => ?_)
    · replace hw := hw.1 c_1
      refine lv_iload_n hx hb dX4_fills_28 rfl (lv_at hl 3 rfl) ?_
      exact x_iret (u := (Hh, G)) C T hw (Nat.le_of_ble_eq_true rfl) (Nat.le_of_ble_eq_true rfl) dX4_fills_29
    · replace hw := hw.2 c_1
      refine lv_iload_n hx hb dX4_fills_11 rfl (lv_at hl 3 rfl) ?_
      refine lv_aload_n hx hb dX4_fills_12 rfl (lv_at hl 0 rfl) ?_
      refine lv_iload_n hx hb dX4_fills_13 rfl (lv_at hl 1 rfl) ?_
      refine x_ki (X := [(hs, .inr (2, [.ref h1, .ref h2, .ref h3, .ref h4, .ref h5, .int (G 5), .int (G 6), .int (G 7), .int (G 8), .int (G 9), .int (G 10), .int (G 11), .int (G 12), .int (G 13), .int (G 14), .int (G 15), .int (G 16)])), (h1, xI (d 0) 9 Nn), (h2, xI (d 0) 9 Hh), (h3, xI (d 0) 61 Mk), (h4, xI (d 1) 9 Sk)]) (pl := []) (wc := [(hs, .inr (2, [.ref h1, .ref h2, .ref h3, .ref h4, .ref h5, .int (G 5), .int (G 6), .int (G 7), .int (G 8), .int (G 9), .int (G 10), .int (G 11), .int (G 12), .int (G 13), .int (G 14), .int (G 15), .int (G 16)])), (h1, xI (d 0) 9 Nn), (h2, xI (d 0) 9 Hh), (h3, xI (d 0) 61 Mk), (h4, xI (d 1) 9 Sk)]) (wr := []) C T [0, 1, 2, 3, 4] [] rfl rfl rfl (by decide) rfl (x_rV (As := [.int x1]) (rest := [.int x3]) C (x_preq hE T [0, 1, 2, 3, 4] rfl rfl (fun U hU hW => (x_envT (X := [(hs, .inr (2, [.ref h1, .ref h2, .ref h3, .ref h4, .ref h5, .int (G 5), .int (G 6), .int (G 7), .int (G 8), .int (G 9), .int (G 10), .int (G 11), .int (G 12), .int (G 13), .int (G 14), .int (G 15), .int (G 16)])), (h1, xI (d 0) 9 Nn), (h2, xI (d 0) 9 Hh), (h3, xI (d 0) 61 Mk), (h4, xI (d 1) 9 Sk)]) (pl := []) hE C T [0, 1, 2, 3, 4] rfl U hU hW)) _) (mtX4_fillsOne l hE D d hs h1 h2 h3 h4 h5 G Nn Hh Mk Sk x1 H.size _ hw) (cwV 1 hts (lw_V q1118 q1120 qs20 q108 q1121) rfl rfl rfl (by decide +kernel) ⟨Nat.le_of_ble_eq_true rfl, Nat.le_of_ble_eq_true rfl⟩) (x_recvA T (ci := 2) rfl (T.at0 0 rfl)) rfl hl.1 (lv_room (Nat.le_of_ble_eq_true rfl)) dX4_fills_14 ⟨(Nat.le_of_ble_eq_true rfl), (Nat.le_of_ble_eq_true rfl)⟩) (fun r u H locs hw T => ?_)
      obtain ⟨b_2, rfl, hw⟩ := hw
      obtain ⟨Hh_3, G_4⟩ := u
      replace T : xT E D (xTys d) A s H locs ([(hs, .inr (2, [.ref h1, .ref h2, .ref h3, .ref h4, .ref h5, .int (G_4 5), .int (G_4 6), .int (G_4 7), .int (G_4 8), .int (G_4 9), .int (G_4 10), .int (G_4 11), .int (G_4 12), .int (G_4 13), .int (G_4 14), .int (G_4 15), .int (G_4 16)])), (h1, xI (d 0) 9 Nn), (h2, xI (d 0) 9 Hh_3), (h3, xI (d 0) 61 Mk), (h4, xI (d 1) 9 Sk)]) := T
      refine x_ki (X := [(hs, .inr (2, [.ref h1, .ref h2, .ref h3, .ref h4, .ref h5, .int (G_4 5), .int (G_4 6), .int (G_4 7), .int (G_4 8), .int (G_4 9), .int (G_4 10), .int (G_4 11), .int (G_4 12), .int (G_4 13), .int (G_4 14), .int (G_4 15), .int (G_4 16)])), (h1, xI (d 0) 9 Nn), (h2, xI (d 0) 9 Hh_3), (h3, xI (d 0) 61 Mk), (h4, xI (d 1) 9 Sk)]) (pl := []) (wc := []) (wr := [(hs, .inr (2, [.ref h1, .ref h2, .ref h3, .ref h4, .ref h5, .int (G_4 5), .int (G_4 6), .int (G_4 7), .int (G_4 8), .int (G_4 9), .int (G_4 10), .int (G_4 11), .int (G_4 12), .int (G_4 13), .int (G_4 14), .int (G_4 15), .int (G_4 16)])), (h1, xI (d 0) 9 Nn), (h2, xI (d 0) 9 Hh_3), (h3, xI (d 0) 61 Mk), (h4, xI (d 1) 9 Sk)]) C T [] [0, 1, 2, 3, 4] rfl rfl rfl (by decide) rfl (x_rSN (As := [.int (bI b_2)]) (rest := [.int x3]) C (x_preq hE T [] rfl rfl (fun U hU hW => (x_envT (X := [(hs, .inr (2, [.ref h1, .ref h2, .ref h3, .ref h4, .ref h5, .int (G_4 5), .int (G_4 6), .int (G_4 7), .int (G_4 8), .int (G_4 9), .int (G_4 10), .int (G_4 11), .int (G_4 12), .int (G_4 13), .int (G_4 14), .int (G_4 15), .int (G_4 16)])), (h1, xI (d 0) 9 Nn), (h2, xI (d 0) 9 Hh_3), (h3, xI (d 0) 61 Mk), (h4, xI (d 1) 9 Sk)]) (pl := []) hE C T [] rfl U hU hW)) _) (mtX1_one l hE D d (bI b_2) H.size _ hw) ⟨(va_cnB 1 hts (lw_meth q1124) rfl rfl rfl (x_nest hE T q1122) (hts _ q95) (by decide +kernel) ⟨Nat.le_of_ble_eq_true rfl, Nat.le_of_ble_eq_true rfl⟩), hts _ q1123, trivial⟩ rfl hl.1 (lv_room (Nat.le_of_ble_eq_true rfl)) dX4_fills_17 ⟨(Nat.le_of_ble_eq_true rfl), (Nat.le_of_ble_eq_true rfl)⟩) (fun r u H locs hw T => ?_)
      obtain ⟨r_5, rfl⟩ : ∃ z, z = r := ⟨_, rfl⟩
      replace T : xT E D (xTys d) A s H locs ([(hs, .inr (2, [.ref h1, .ref h2, .ref h3, .ref h4, .ref h5, .int (G_4 5), .int (G_4 6), .int (G_4 7), .int (G_4 8), .int (G_4 9), .int (G_4 10), .int (G_4 11), .int (G_4 12), .int (G_4 13), .int (G_4 14), .int (G_4 15), .int (G_4 16)])), (h1, xI (d 0) 9 Nn), (h2, xI (d 0) 9 Hh_3), (h3, xI (d 0) 61 Mk), (h4, xI (d 1) 9 Sk)]) := T
      refine lv_iadd hx hb dX4_fills_20 ?_
      refine lv_topi (fun x3_6 ex3_6 => ?_)
      replace hw := hw x3_6 ex3_6
      refine lv_istore_n (lv' := [(3, .int x3_6), (0, .ref hs), (1, .int x1), (2, .int x2), (4, .int x4)]) hx hb dX4_fills_21 rfl hl (by decide) rfl (fun ls hl => ?_)
      obtain ⟨x4_7, ex4_7⟩ : ∃ z : Int32, z = x4 + 1 := ⟨_, rfl⟩
      replace hw := hw x4_7 ex4_7
      refine lv_iinc (v := x4_7) (lv' := [(4, .int x4_7), (3, .int x3_6), (0, .ref hs), (1, .int x1), (2, .int x2)]) hx hb dX4_fills_22 hl (k := 4) rfl (by rw [ex4_7]; rfl) (by decide) rfl (fun ls hl => ?_)
      refine lv_goto (tgt := 5) hx hb dX4_fills_25 (by decide) ?_
      exact ih x3_6 x4_7 G_4 Hh_3 hw _ _ T _ (lv_sub hl [2, 3, 4, 1, 0] rfl)
set_option maxHeartbeats 4000000 in
set_option maxRecDepth 100000 in
theorem mtX4_fills (l : Launch) {κ : xK} {E : xEnv} (hE : xStable κ E) (D : va_G) (d : Nat → ClassId) (hs h1 h2 h3 h4 h5 : Nat) (G : Nat → Int32) (Nn : Nat → Int32) (Hh : Nat → Int32) (Mk : Nat → Int32) (Sk : Nat → Int32) (p1 : Int32) (p2 : Int32) (sz : Nat) (post : Int32 → (Nat → Int32) → (Nat → Int32) → Prop) (hw : wpX4_fills post G Nn Hh Mk Sk p1 p2) : Met l yX4_fills (ws_ yX4_fills cX4_fills 5 (some .int)) ({ frames := 7, cells := 0, slots := 0, locals := 129 } : Room) (xPc E D (xTys d) ([(hs, .inr (2, [.ref h1, .ref h2, .ref h3, .ref h4, .ref h5, .int (G 5), .int (G 6), .int (G 7), .int (G 8), .int (G 9), .int (G 10), .int (G 11), .int (G 12), .int (G 13), .int (G 14), .int (G 15), .int (G 16)])), (h1, xI (d 0) 9 Nn), (h2, xI (d 0) 9 Hh), (h3, xI (d 0) 61 Mk), (h4, xI (d 1) 9 Sk)]) sz [.ref hs, .int p1, .int p2]) ((fun A : Nat → Prop => va_Qi (fun (r : Int32) (u : (Nat → Int32) × (Nat → Int32)) => post r u.1 u.2) (xB D (xTys d) A (fun (u : (Nat → Int32) × (Nat → Int32)) => [(hs, .inr (2, [.ref h1, .ref h2, .ref h3, .ref h4, .ref h5, .int (u.2 5), .int (u.2 6), .int (u.2 7), .int (u.2 8), .int (u.2 9), .int (u.2 10), .int (u.2 11), .int (u.2 12), .int (u.2 13), .int (u.2 14), .int (u.2 15), .int (u.2 16)])), (h1, xI (d 0) 9 Nn), (h2, xI (d 0) 9 u.1), (h3, xI (d 0) 61 Mk), (h4, xI (d 1) 9 Sk)])) A) (va_A ([(hs, .inr (2, [.ref h1, .ref h2, .ref h3, .ref h4, .ref h5, .int (G 5), .int (G 6), .int (G 7), .int (G 8), .int (G 9), .int (G 10), .int (G 11), .int (G 12), .int (G 13), .int (G 14), .int (G 15), .int (G 16)])), (h1, xI (d 0) 9 Nn), (h2, xI (d 0) 9 Hh), (h3, xI (d 0) 61 Mk), (h4, xI (d 1) 9 Sk)]) sz)) 0 0 (va_A ([(hs, .inr (2, [.ref h1, .ref h2, .ref h3, .ref h4, .ref h5, .int (G 5), .int (G 6), .int (G 7), .int (G 8), .int (G 9), .int (G 10), .int (G 11), .int (G 12), .int (G 13), .int (G 14), .int (G 15), .int (G 16)])), (h1, xI (d 0) 9 Nn), (h2, xI (d 0) 9 Hh), (h3, xI (d 0) 61 Mk), (h4, xI (d 1) 9 Sk)]) sz) := by
  refine x_start (QcA := fun A => va_Qi (fun (r : Int32) (u : (Nat → Int32) × (Nat → Int32)) => post r u.1 u.2) (xB D (xTys d) A (fun (u : (Nat → Int32) × (Nat → Int32)) => [(hs, .inr (2, [.ref h1, .ref h2, .ref h3, .ref h4, .ref h5, .int (u.2 5), .int (u.2 6), .int (u.2 7), .int (u.2 8), .int (u.2 9), .int (u.2 10), .int (u.2 11), .int (u.2 12), .int (u.2 13), .int (u.2 14), .int (u.2 15), .int (u.2 16)])), (h1, xI (d 0) 9 Nn), (h2, xI (d 0) 9 u.1), (h3, xI (d 0) 61 Mk), (h4, xI (d 1) 9 Sk)])) A) hE (by decide) (Nat.le_of_ble_eq_true rfl) ?_
  intro p e s m below meth c A C H locs hsz T ls hl
  obtain ⟨hx, hb, hr, hlk, hml, hown, hts, hA⟩ := id C
  replace hl : lv_has ls 5 [(0, .ref hs), (1, .int p1), (2, .int p2)] := hl
  unfold wpX4_fills at hw
  refine lv_iconst (v := 0) hx hb dX4_fills_0 (by decide) ?_
  refine lv_istore_n (lv' := [(3, .int 0), (0, .ref hs), (1, .int p1), (2, .int p2)]) hx hb dX4_fills_1 rfl hl (by decide) rfl (fun ls hl => ?_)
  refine lv_iconst (v := 0) hx hb dX4_fills_2 (by decide) ?_
  refine lv_istore (lv' := [(4, .int 0), (3, .int 0), (0, .ref hs), (1, .int p1), (2, .int p2)]) hx hb dX4_fills_3 hl (by decide) rfl (fun ls hl => ?_)
  obtain ⟨fu5, hw⟩ := hw
  exact wkX4_fills_5 l hE D d hs h1 h2 h3 h4 h5 post C  p1 p2 Nn Mk Sk fu5 0 0 G Hh hw _ _ T _ (lv_sub hl [2, 3, 4, 1, 0] rfl)
def wpX4_drawsOne (post : Bool → (Nat → Int32) → (Nat → Int32) → Prop) (G : Nat → Int32) (Nn : Nat → Int32) (Hh : Nat → Int32) (Mk : Nat → Int32) (Sk : Nat → Int32) : Prop := (vp_in (Nn 3) 9 ∧ (((Hh (Nn 3).toNatClampNeg) = 0 → (∀ f_8 : Int32, f_8 = (G 13) + 1 → (∀ G_9 : Nat → Int32, G_9 = upd G 13 f_8 → (post false Hh G_9)))) ∧ (¬ (Hh (Nn 3).toNatClampNeg) = 0 → (vp_in (Nn 3) 9 ∧ (vp_in (Nn 3) 9 ∧ (∀ Hh_2 : Nat → Int32, Hh_2 = upd Hh ((Nn 3).toNatClampNeg) ((Hh (Nn 3).toNatClampNeg) - 1) → (∀ f_3 : Int32, f_3 = (G 12) + 1 → (∀ G_4 : Nat → Int32, G_4 = upd G 12 f_3 → (wpX4_slides (fun r_5 Hh_6 G_7 => (post true Hh_6 G_7)) G_4 Nn Hh_2 Mk Sk)))))))))
set_option maxHeartbeats 4000000 in
set_option maxRecDepth 100000 in
theorem mtX4_drawsOne (l : Launch) {κ : xK} {E : xEnv} (hE : xStable κ E) (D : va_G) (d : Nat → ClassId) (hs h1 h2 h3 h4 h5 : Nat) (G : Nat → Int32) (Nn : Nat → Int32) (Hh : Nat → Int32) (Mk : Nat → Int32) (Sk : Nat → Int32) (sz : Nat) (post : Bool → (Nat → Int32) → (Nat → Int32) → Prop) (hw : wpX4_drawsOne post G Nn Hh Mk Sk) : Met l yX4_drawsOne (ws_ yX4_drawsOne cX4_drawsOne 2 (some .boolean)) ({ frames := 6, cells := 0, slots := 0, locals := 107 } : Room) (xPc E D (xTys d) ([(hs, .inr (2, [.ref h1, .ref h2, .ref h3, .ref h4, .ref h5, .int (G 5), .int (G 6), .int (G 7), .int (G 8), .int (G 9), .int (G 10), .int (G 11), .int (G 12), .int (G 13), .int (G 14), .int (G 15), .int (G 16)])), (h1, xI (d 0) 9 Nn), (h2, xI (d 0) 9 Hh), (h3, xI (d 0) 61 Mk), (h4, xI (d 1) 9 Sk)]) sz [.ref hs]) ((fun A : Nat → Prop => va_Qi (fun (r : Int32) (u : (Nat → Int32) × (Nat → Int32)) => ∃ b : Bool, r = bI b ∧ post b u.1 u.2) (xB D (xTys d) A (fun (u : (Nat → Int32) × (Nat → Int32)) => [(hs, .inr (2, [.ref h1, .ref h2, .ref h3, .ref h4, .ref h5, .int (u.2 5), .int (u.2 6), .int (u.2 7), .int (u.2 8), .int (u.2 9), .int (u.2 10), .int (u.2 11), .int (u.2 12), .int (u.2 13), .int (u.2 14), .int (u.2 15), .int (u.2 16)])), (h1, xI (d 0) 9 Nn), (h2, xI (d 0) 9 u.1), (h3, xI (d 0) 61 Mk), (h4, xI (d 1) 9 Sk)])) A) (va_A ([(hs, .inr (2, [.ref h1, .ref h2, .ref h3, .ref h4, .ref h5, .int (G 5), .int (G 6), .int (G 7), .int (G 8), .int (G 9), .int (G 10), .int (G 11), .int (G 12), .int (G 13), .int (G 14), .int (G 15), .int (G 16)])), (h1, xI (d 0) 9 Nn), (h2, xI (d 0) 9 Hh), (h3, xI (d 0) 61 Mk), (h4, xI (d 1) 9 Sk)]) sz)) 0 0 (va_A ([(hs, .inr (2, [.ref h1, .ref h2, .ref h3, .ref h4, .ref h5, .int (G 5), .int (G 6), .int (G 7), .int (G 8), .int (G 9), .int (G 10), .int (G 11), .int (G 12), .int (G 13), .int (G 14), .int (G 15), .int (G 16)])), (h1, xI (d 0) 9 Nn), (h2, xI (d 0) 9 Hh), (h3, xI (d 0) 61 Mk), (h4, xI (d 1) 9 Sk)]) sz) := by
  refine x_start (QcA := fun A => va_Qi (fun (r : Int32) (u : (Nat → Int32) × (Nat → Int32)) => ∃ b : Bool, r = bI b ∧ post b u.1 u.2) (xB D (xTys d) A (fun (u : (Nat → Int32) × (Nat → Int32)) => [(hs, .inr (2, [.ref h1, .ref h2, .ref h3, .ref h4, .ref h5, .int (u.2 5), .int (u.2 6), .int (u.2 7), .int (u.2 8), .int (u.2 9), .int (u.2 10), .int (u.2 11), .int (u.2 12), .int (u.2 13), .int (u.2 14), .int (u.2 15), .int (u.2 16)])), (h1, xI (d 0) 9 Nn), (h2, xI (d 0) 9 u.1), (h3, xI (d 0) 61 Mk), (h4, xI (d 1) 9 Sk)])) A) hE (by decide) (Nat.le_of_ble_eq_true rfl) ?_
  intro p e s m below meth c A C H locs hsz T ls hl
  obtain ⟨hx, hb, hr, hlk, hml, hown, hts, hA⟩ := id C
  replace hl : lv_has ls 2 [(0, .ref hs)] := hl
  unfold wpX4_drawsOne at hw
  refine lv_aload_n hx hb dX4_drawsOne_0 rfl (lv_at hl 0 rfl) ?_
  refine x_getA (v := .ref h2) (ci := 2) C T (T.at0 0 rfl) rfl 1 (by decide) in_X4 q647 rfl dX4_drawsOne_1 ?_
  refine lv_aload_n hx hb dX4_drawsOne_4 rfl (lv_at hl 0 rfl) ?_
  refine x_getA (v := .ref h1) (ci := 2) C T (T.at0 0 rfl) rfl 0 (by decide) in_X4 q644 rfl dX4_drawsOne_5 ?_
  refine lv_iconst (v := 3) hx hb dX4_drawsOne_8 (by decide) ?_
  refine x_ialdE (j := 3) C T 0 (T.at0 1 rfl) rfl (x_in (by decide)) (by decide) dX4_drawsOne_9 ?_
  refine x_ialdE C T 0 (T.at0 2 rfl) rfl hw.1 rfl dX4_drawsOne_10 ?_
  replace hw := hw.2
  refine lv_if_ne (tgt := 26) hx hb dX4_drawsOne_11 (by decide) (fun c_1 => ?_) (fun c_1 => ?_)
  · replace hw := hw.2 c_1
    refine lv_aload_n hx hb dX4_drawsOne_26 rfl (lv_at hl 0 rfl) ?_
    refine x_getA (v := .ref h2) (ci := 2) C T (T.at0 0 rfl) rfl 1 (by decide) in_X4 q647 rfl dX4_drawsOne_27 ?_
    refine lv_aload_n hx hb dX4_drawsOne_30 rfl (lv_at hl 0 rfl) ?_
    refine x_getA (v := .ref h1) (ci := 2) C T (T.at0 0 rfl) rfl 0 (by decide) in_X4 q644 rfl dX4_drawsOne_31 ?_
    refine lv_iconst (v := 3) hx hb dX4_drawsOne_34 (by decide) ?_
    refine x_ialdE (j := 3) C T 0 (T.at0 1 rfl) rfl (x_in (by decide)) (by decide) dX4_drawsOne_35 ?_
    refine lv_dup2_11 hx hb dX4_drawsOne_36 rfl rfl ?_
    refine x_ialdE C T 0 (T.at0 2 rfl) rfl hw.1 rfl dX4_drawsOne_37 ?_
    replace hw := hw.2
    refine lv_iconst (v := 1) hx hb dX4_drawsOne_38 (by decide) ?_
    refine lv_isub hx hb dX4_drawsOne_39 ?_
    refine x_iast C T 2 0 rfl rfl hw.1 rfl dX4_drawsOne_40 (fun H locs T => ?_)
    replace hw := hw.2
    obtain ⟨Hh_2, eHh_2⟩ : ∃ z : Nat → Int32, z = upd Hh ((Nn 3).toNatClampNeg) ((Hh (Nn 3).toNatClampNeg) - 1) := ⟨_, rfl⟩
    replace T : xT E D (xTys d) A s H locs ([(hs, .inr (2, [.ref h1, .ref h2, .ref h3, .ref h4, .ref h5, .int (G 5), .int (G 6), .int (G 7), .int (G 8), .int (G 9), .int (G 10), .int (G 11), .int (G 12), .int (G 13), .int (G 14), .int (G 15), .int (G 16)])), (h1, xI (d 0) 9 Nn), (h2, xI (d 0) 9 Hh_2), (h3, xI (d 0) 61 Mk), (h4, xI (d 1) 9 Sk)]) := by rw [eHh_2]; exact T
    replace hw := hw Hh_2 eHh_2
    refine lv_aload_n hx hb dX4_drawsOne_41 rfl (lv_at hl 0 rfl) ?_
    refine lv_dup hx hb dX4_drawsOne_42 rfl ?_
    refine x_getA (v := .int (G 12)) (ci := 2) C T (T.at0 0 rfl) rfl 12 (by decide) in_X4 q673 rfl dX4_drawsOne_43 ?_
    refine lv_iconst (v := 1) hx hb dX4_drawsOne_46 (by decide) ?_
    refine lv_iadd hx hb dX4_drawsOne_47 ?_
    refine lv_topi (fun f_3 ef_3 => ?_)
    replace hw := hw f_3 ef_3
    refine x_put (v := .int f_3) (ty := .int) C T tyX4 tyX4_ok nmX4 0 rfl rfl 12 (by decide) in_X4 q673 rfl (by decide +kernel) rfl rfl (Nat.le_of_ble_eq_true rfl) dX4_drawsOne_48 (fun H locs T => ?_)
    obtain ⟨G_4, eG_4⟩ : ∃ z : Nat → Int32, z = upd G 12 f_3 := ⟨_, rfl⟩
    replace T : xT E D (xTys d) A s H locs ([(hs, .inr (2, [.ref h1, .ref h2, .ref h3, .ref h4, .ref h5, .int (G_4 5), .int (G_4 6), .int (G_4 7), .int (G_4 8), .int (G_4 9), .int (G_4 10), .int (G_4 11), .int (G_4 12), .int (G_4 13), .int (G_4 14), .int (G_4 15), .int (G_4 16)])), (h1, xI (d 0) 9 Nn), (h2, xI (d 0) 9 Hh_2), (h3, xI (d 0) 61 Mk), (h4, xI (d 1) 9 Sk)]) := by rw [eG_4]; exact T
    replace hw := hw G_4 eG_4
    refine lv_aload_n hx hb dX4_drawsOne_51 rfl (lv_at hl 0 rfl) ?_
    refine x_ki (X := [(hs, .inr (2, [.ref h1, .ref h2, .ref h3, .ref h4, .ref h5, .int (G_4 5), .int (G_4 6), .int (G_4 7), .int (G_4 8), .int (G_4 9), .int (G_4 10), .int (G_4 11), .int (G_4 12), .int (G_4 13), .int (G_4 14), .int (G_4 15), .int (G_4 16)])), (h1, xI (d 0) 9 Nn), (h2, xI (d 0) 9 Hh_2), (h3, xI (d 0) 61 Mk), (h4, xI (d 1) 9 Sk)]) (pl := []) (wc := [(hs, .inr (2, [.ref h1, .ref h2, .ref h3, .ref h4, .ref h5, .int (G_4 5), .int (G_4 6), .int (G_4 7), .int (G_4 8), .int (G_4 9), .int (G_4 10), .int (G_4 11), .int (G_4 12), .int (G_4 13), .int (G_4 14), .int (G_4 15), .int (G_4 16)])), (h1, xI (d 0) 9 Nn), (h2, xI (d 0) 9 Hh_2), (h3, xI (d 0) 61 Mk), (h4, xI (d 1) 9 Sk)]) (wr := []) C T [0, 1, 2, 3, 4] [] rfl rfl rfl (by decide) rfl (x_rV (As := []) (rest := []) C (x_preq hE T [0, 1, 2, 3, 4] rfl rfl (fun U hU hW => (x_envT (X := [(hs, .inr (2, [.ref h1, .ref h2, .ref h3, .ref h4, .ref h5, .int (G_4 5), .int (G_4 6), .int (G_4 7), .int (G_4 8), .int (G_4 9), .int (G_4 10), .int (G_4 11), .int (G_4 12), .int (G_4 13), .int (G_4 14), .int (G_4 15), .int (G_4 16)])), (h1, xI (d 0) 9 Nn), (h2, xI (d 0) 9 Hh_2), (h3, xI (d 0) 61 Mk), (h4, xI (d 1) 9 Sk)]) (pl := []) hE C T [0, 1, 2, 3, 4] rfl U hU hW)) _) (mtX4_slides l hE D d hs h1 h2 h3 h4 h5 G_4 Nn Hh_2 Mk Sk H.size _ hw) (cwV 0 hts (lw_V q965 q966 q967 q108 q968) rfl rfl rfl (by decide +kernel) ⟨Nat.le_of_ble_eq_true rfl, Nat.le_of_ble_eq_true rfl⟩) (x_recvA T (ci := 2) rfl (T.at0 0 rfl)) rfl hl.1 (lv_room (Nat.le_of_ble_eq_true rfl)) dX4_drawsOne_52 ⟨(Nat.le_of_ble_eq_true rfl), (Nat.le_of_ble_eq_true rfl)⟩) (fun r u H locs hw T => ?_)
    obtain ⟨r_5, rfl⟩ : ∃ z, z = r := ⟨_, rfl⟩
    obtain ⟨Hh_6, G_7⟩ := u
    replace T : xT E D (xTys d) A s H locs ([(hs, .inr (2, [.ref h1, .ref h2, .ref h3, .ref h4, .ref h5, .int (G_7 5), .int (G_7 6), .int (G_7 7), .int (G_7 8), .int (G_7 9), .int (G_7 10), .int (G_7 11), .int (G_7 12), .int (G_7 13), .int (G_7 14), .int (G_7 15), .int (G_7 16)])), (h1, xI (d 0) 9 Nn), (h2, xI (d 0) 9 Hh_6), (h3, xI (d 0) 61 Mk), (h4, xI (d 1) 9 Sk)]) := T
    refine lv_istore_n (lv' := [(1, .int r_5), (0, .ref hs)]) hx hb dX4_drawsOne_55 rfl hl (by decide) rfl (fun ls hl => ?_)
    refine lv_iconst (v := 1) hx hb dX4_drawsOne_56 (by decide) ?_
    exact x_zret (b := true) (u := (Hh_6, G_7)) C T rfl hw (Nat.le_of_ble_eq_true rfl) (Nat.le_of_ble_eq_true rfl) dX4_drawsOne_57
  · replace hw := hw.1 c_1
    refine lv_aload_n hx hb dX4_drawsOne_14 rfl (lv_at hl 0 rfl) ?_
    refine lv_dup hx hb dX4_drawsOne_15 rfl ?_
    refine x_getA (v := .int (G 13)) (ci := 2) C T (T.at0 0 rfl) rfl 13 (by decide) in_X4 q675 rfl dX4_drawsOne_16 ?_
    refine lv_iconst (v := 1) hx hb dX4_drawsOne_19 (by decide) ?_
    refine lv_iadd hx hb dX4_drawsOne_20 ?_
    refine lv_topi (fun f_8 ef_8 => ?_)
    replace hw := hw f_8 ef_8
    refine x_put (v := .int f_8) (ty := .int) C T tyX4 tyX4_ok nmX4 0 rfl rfl 13 (by decide) in_X4 q675 rfl (by decide +kernel) rfl rfl (Nat.le_of_ble_eq_true rfl) dX4_drawsOne_21 (fun H locs T => ?_)
    obtain ⟨G_9, eG_9⟩ : ∃ z : Nat → Int32, z = upd G 13 f_8 := ⟨_, rfl⟩
    replace T : xT E D (xTys d) A s H locs ([(hs, .inr (2, [.ref h1, .ref h2, .ref h3, .ref h4, .ref h5, .int (G_9 5), .int (G_9 6), .int (G_9 7), .int (G_9 8), .int (G_9 9), .int (G_9 10), .int (G_9 11), .int (G_9 12), .int (G_9 13), .int (G_9 14), .int (G_9 15), .int (G_9 16)])), (h1, xI (d 0) 9 Nn), (h2, xI (d 0) 9 Hh), (h3, xI (d 0) 61 Mk), (h4, xI (d 1) 9 Sk)]) := by rw [eG_9]; exact T
    replace hw := hw G_9 eG_9
    refine lv_iconst (v := 0) hx hb dX4_drawsOne_24 (by decide) ?_
    exact x_zret (b := false) (u := (Hh, G_9)) C T rfl hw (Nat.le_of_ble_eq_true rfl) (Nat.le_of_ble_eq_true rfl) dX4_drawsOne_25
def wX4_draws_4 (post : Int32 → (Nat → Int32) → (Nat → Int32) → Prop) (x1 : Int32) (Nn : Nat → Int32) (Mk : Nat → Int32) (Sk : Nat → Int32) : Nat → Int32 → Int32 → (Nat → Int32) → (Nat → Int32) → Prop
  | 0 => fun _ _ _ _ => False
  | k9 + 1 => fun x2 x3 G Hh => ((x1 ≤ x3 → (post x2 Hh G)) ∧ (¬ x1 ≤ x3 → (wpX4_drawsOne (fun b_2 Hh_3 G_4 => (wpX1_one (fun r_5 => (∀ x2_6 : Int32, x2_6 = x2 + r_5 → (∀ x3_7 : Int32, x3_7 = x3 + 1 → (wX4_draws_4 post x1 Nn Mk Sk k9 x2_6 x3_7 G_4 Hh_3)))) (bI b_2))) G Nn Hh Mk Sk)))
def wpX4_draws (post : Int32 → (Nat → Int32) → (Nat → Int32) → Prop) (G : Nat → Int32) (Nn : Nat → Int32) (Hh : Nat → Int32) (Mk : Nat → Int32) (Sk : Nat → Int32) (p1 : Int32) : Prop := (∃ fu4 : Nat, wX4_draws_4 post p1 Nn Mk Sk fu4 0 0 G Hh)
set_option maxHeartbeats 4000000 in
set_option maxRecDepth 100000 in
theorem wkX4_draws_4 (l : Launch) {κ : xK} {E : xEnv} (hE : xStable κ E) (D : va_G) (d : Nat → ClassId) (hs h1 h2 h3 h4 h5 : Nat) (post : Int32 → (Nat → Int32) → (Nat → Int32) → Prop) {p : Program} {e : Env} {s : State} {m : MethodId} {args : Array Value} {below : List Frame} {meth : Method} {c : Code} {A : Nat → Prop} (C : xC RX4 cX4_draws 4 (some .int) p s m args meth c A) (x1 : Int32) (Nn : Nat → Int32) (Mk : Nat → Int32) (Sk : Nat → Int32) : ∀ (k9 : Nat) (x2 : Int32) (x3 : Int32) (G : Nat → Int32) (Hh : Nat → Int32), wX4_draws_4 post x1 Nn Mk Sk k9 x2 x3 G Hh → ∀ (H : Heap) (locs : List Loc), xT E D (xTys d) A s H locs ([(hs, .inr (2, [.ref h1, .ref h2, .ref h3, .ref h4, .ref h5, .int (G 5), .int (G 6), .int (G 7), .int (G 8), .int (G 9), .int (G 10), .int (G 11), .int (G 12), .int (G 13), .int (G 14), .int (G 15), .int (G 16)])), (h1, xI (d 0) 9 Nn), (h2, xI (d 0) 9 Hh), (h3, xI (d 0) 61 Mk), (h4, xI (d 1) 9 Sk)]) → ∀ ls : Array Slot, lv_has ls 4 [(0, .ref hs), (1, .int x1), (2, .int x2), (3, .int x3)] → W p l e (headSpec (ws_ yX4_draws cX4_draws 4 (some .int)) ({ frames := 7, cells := 0, slots := 0, locals := 128 } : Room)).room s m args below meth c H locs 0 0 (MQ below (va_Qi (fun (r : Int32) (u : (Nat → Int32) × (Nat → Int32)) => post r u.1 u.2) (xB D (xTys d) A (fun (u : (Nat → Int32) × (Nat → Int32)) => [(hs, .inr (2, [.ref h1, .ref h2, .ref h3, .ref h4, .ref h5, .int (u.2 5), .int (u.2 6), .int (u.2 7), .int (u.2 8), .int (u.2 9), .int (u.2 10), .int (u.2 11), .int (u.2 12), .int (u.2 13), .int (u.2 14), .int (u.2 15), .int (u.2 16)])), (h1, xI (d 0) 9 Nn), (h2, xI (d 0) 9 u.1), (h3, xI (d 0) 61 Mk), (h4, xI (d 1) 9 Sk)])) A) args s 0 0 A) (F0 m 4 ls []) := by
  obtain ⟨hx, hb, hr, hlk, hml, hown, hts, hA⟩ := id C
  intro k9
  induction k9 with
  | zero =>
    intro x2 x3 G Hh hw
    exact hw.elim
  | succ k9 ih =>
    intro x2 x3 G Hh hw H locs T ls hl
    rw [wX4_draws_4] at hw
    refine lv_iload_n hx hb dX4_draws_4 rfl (lv_at hl 3 rfl) ?_
    refine lv_iload_n hx hb dX4_draws_5 rfl (lv_at hl 1 rfl) ?_
    refine lv_icmp_ge (tgt := 25) hx hb dX4_draws_6 (by decide) (fun c_1 => ?_) (fun c_1 => ?_)
    · replace hw := hw.1 c_1
      refine lv_iload_n hx hb dX4_draws_25 rfl (lv_at hl 2 rfl) ?_
      exact x_iret (u := (Hh, G)) C T hw (Nat.le_of_ble_eq_true rfl) (Nat.le_of_ble_eq_true rfl) dX4_draws_26
    · replace hw := hw.2 c_1
      refine lv_iload_n hx hb dX4_draws_9 rfl (lv_at hl 2 rfl) ?_
      refine lv_aload_n hx hb dX4_draws_10 rfl (lv_at hl 0 rfl) ?_
      refine x_ki (X := [(hs, .inr (2, [.ref h1, .ref h2, .ref h3, .ref h4, .ref h5, .int (G 5), .int (G 6), .int (G 7), .int (G 8), .int (G 9), .int (G 10), .int (G 11), .int (G 12), .int (G 13), .int (G 14), .int (G 15), .int (G 16)])), (h1, xI (d 0) 9 Nn), (h2, xI (d 0) 9 Hh), (h3, xI (d 0) 61 Mk), (h4, xI (d 1) 9 Sk)]) (pl := []) (wc := [(hs, .inr (2, [.ref h1, .ref h2, .ref h3, .ref h4, .ref h5, .int (G 5), .int (G 6), .int (G 7), .int (G 8), .int (G 9), .int (G 10), .int (G 11), .int (G 12), .int (G 13), .int (G 14), .int (G 15), .int (G 16)])), (h1, xI (d 0) 9 Nn), (h2, xI (d 0) 9 Hh), (h3, xI (d 0) 61 Mk), (h4, xI (d 1) 9 Sk)]) (wr := []) C T [0, 1, 2, 3, 4] [] rfl rfl rfl (by decide) rfl (x_rV (As := []) (rest := [.int x2]) C (x_preq hE T [0, 1, 2, 3, 4] rfl rfl (fun U hU hW => (x_envT (X := [(hs, .inr (2, [.ref h1, .ref h2, .ref h3, .ref h4, .ref h5, .int (G 5), .int (G 6), .int (G 7), .int (G 8), .int (G 9), .int (G 10), .int (G 11), .int (G 12), .int (G 13), .int (G 14), .int (G 15), .int (G 16)])), (h1, xI (d 0) 9 Nn), (h2, xI (d 0) 9 Hh), (h3, xI (d 0) 61 Mk), (h4, xI (d 1) 9 Sk)]) (pl := []) hE C T [0, 1, 2, 3, 4] rfl U hU hW)) _) (mtX4_drawsOne l hE D d hs h1 h2 h3 h4 h5 G Nn Hh Mk Sk H.size _ hw) (cwV 0 hts (lw_V q1133 q1135 qs22 q108 q1136) rfl rfl rfl (by decide +kernel) ⟨Nat.le_of_ble_eq_true rfl, Nat.le_of_ble_eq_true rfl⟩) (x_recvA T (ci := 2) rfl (T.at0 0 rfl)) rfl hl.1 (lv_room (Nat.le_of_ble_eq_true rfl)) dX4_draws_11 ⟨(Nat.le_of_ble_eq_true rfl), (Nat.le_of_ble_eq_true rfl)⟩) (fun r u H locs hw T => ?_)
      obtain ⟨b_2, rfl, hw⟩ := hw
      obtain ⟨Hh_3, G_4⟩ := u
      replace T : xT E D (xTys d) A s H locs ([(hs, .inr (2, [.ref h1, .ref h2, .ref h3, .ref h4, .ref h5, .int (G_4 5), .int (G_4 6), .int (G_4 7), .int (G_4 8), .int (G_4 9), .int (G_4 10), .int (G_4 11), .int (G_4 12), .int (G_4 13), .int (G_4 14), .int (G_4 15), .int (G_4 16)])), (h1, xI (d 0) 9 Nn), (h2, xI (d 0) 9 Hh_3), (h3, xI (d 0) 61 Mk), (h4, xI (d 1) 9 Sk)]) := T
      refine x_ki (X := [(hs, .inr (2, [.ref h1, .ref h2, .ref h3, .ref h4, .ref h5, .int (G_4 5), .int (G_4 6), .int (G_4 7), .int (G_4 8), .int (G_4 9), .int (G_4 10), .int (G_4 11), .int (G_4 12), .int (G_4 13), .int (G_4 14), .int (G_4 15), .int (G_4 16)])), (h1, xI (d 0) 9 Nn), (h2, xI (d 0) 9 Hh_3), (h3, xI (d 0) 61 Mk), (h4, xI (d 1) 9 Sk)]) (pl := []) (wc := []) (wr := [(hs, .inr (2, [.ref h1, .ref h2, .ref h3, .ref h4, .ref h5, .int (G_4 5), .int (G_4 6), .int (G_4 7), .int (G_4 8), .int (G_4 9), .int (G_4 10), .int (G_4 11), .int (G_4 12), .int (G_4 13), .int (G_4 14), .int (G_4 15), .int (G_4 16)])), (h1, xI (d 0) 9 Nn), (h2, xI (d 0) 9 Hh_3), (h3, xI (d 0) 61 Mk), (h4, xI (d 1) 9 Sk)]) C T [] [0, 1, 2, 3, 4] rfl rfl rfl (by decide) rfl (x_rSN (As := [.int (bI b_2)]) (rest := [.int x2]) C (x_preq hE T [] rfl rfl (fun U hU hW => (x_envT (X := [(hs, .inr (2, [.ref h1, .ref h2, .ref h3, .ref h4, .ref h5, .int (G_4 5), .int (G_4 6), .int (G_4 7), .int (G_4 8), .int (G_4 9), .int (G_4 10), .int (G_4 11), .int (G_4 12), .int (G_4 13), .int (G_4 14), .int (G_4 15), .int (G_4 16)])), (h1, xI (d 0) 9 Nn), (h2, xI (d 0) 9 Hh_3), (h3, xI (d 0) 61 Mk), (h4, xI (d 1) 9 Sk)]) (pl := []) hE C T [] rfl U hU hW)) _) (mtX1_one l hE D d (bI b_2) H.size _ hw) ⟨(va_cnB 1 hts (lw_meth q1124) rfl rfl rfl (x_nest hE T q1122) (hts _ q95) (by decide +kernel) ⟨Nat.le_of_ble_eq_true rfl, Nat.le_of_ble_eq_true rfl⟩), hts _ q1123, trivial⟩ rfl hl.1 (lv_room (Nat.le_of_ble_eq_true rfl)) dX4_draws_14 ⟨(Nat.le_of_ble_eq_true rfl), (Nat.le_of_ble_eq_true rfl)⟩) (fun r u H locs hw T => ?_)
      obtain ⟨r_5, rfl⟩ : ∃ z, z = r := ⟨_, rfl⟩
      replace T : xT E D (xTys d) A s H locs ([(hs, .inr (2, [.ref h1, .ref h2, .ref h3, .ref h4, .ref h5, .int (G_4 5), .int (G_4 6), .int (G_4 7), .int (G_4 8), .int (G_4 9), .int (G_4 10), .int (G_4 11), .int (G_4 12), .int (G_4 13), .int (G_4 14), .int (G_4 15), .int (G_4 16)])), (h1, xI (d 0) 9 Nn), (h2, xI (d 0) 9 Hh_3), (h3, xI (d 0) 61 Mk), (h4, xI (d 1) 9 Sk)]) := T
      refine lv_iadd hx hb dX4_draws_17 ?_
      refine lv_topi (fun x2_6 ex2_6 => ?_)
      replace hw := hw x2_6 ex2_6
      refine lv_istore_n (lv' := [(2, .int x2_6), (0, .ref hs), (1, .int x1), (3, .int x3)]) hx hb dX4_draws_18 rfl hl (by decide) rfl (fun ls hl => ?_)
      obtain ⟨x3_7, ex3_7⟩ : ∃ z : Int32, z = x3 + 1 := ⟨_, rfl⟩
      replace hw := hw x3_7 ex3_7
      refine lv_iinc (v := x3_7) (lv' := [(3, .int x3_7), (2, .int x2_6), (0, .ref hs), (1, .int x1)]) hx hb dX4_draws_19 hl (k := 3) rfl (by rw [ex3_7]; rfl) (by decide) rfl (fun ls hl => ?_)
      refine lv_goto (tgt := 4) hx hb dX4_draws_22 (by decide) ?_
      exact ih x2_6 x3_7 G_4 Hh_3 hw _ _ T _ (lv_sub hl [2, 3, 1, 0] rfl)
set_option maxHeartbeats 4000000 in
set_option maxRecDepth 100000 in
theorem mtX4_draws (l : Launch) {κ : xK} {E : xEnv} (hE : xStable κ E) (D : va_G) (d : Nat → ClassId) (hs h1 h2 h3 h4 h5 : Nat) (G : Nat → Int32) (Nn : Nat → Int32) (Hh : Nat → Int32) (Mk : Nat → Int32) (Sk : Nat → Int32) (p1 : Int32) (sz : Nat) (post : Int32 → (Nat → Int32) → (Nat → Int32) → Prop) (hw : wpX4_draws post G Nn Hh Mk Sk p1) : Met l yX4_draws (ws_ yX4_draws cX4_draws 4 (some .int)) ({ frames := 7, cells := 0, slots := 0, locals := 128 } : Room) (xPc E D (xTys d) ([(hs, .inr (2, [.ref h1, .ref h2, .ref h3, .ref h4, .ref h5, .int (G 5), .int (G 6), .int (G 7), .int (G 8), .int (G 9), .int (G 10), .int (G 11), .int (G 12), .int (G 13), .int (G 14), .int (G 15), .int (G 16)])), (h1, xI (d 0) 9 Nn), (h2, xI (d 0) 9 Hh), (h3, xI (d 0) 61 Mk), (h4, xI (d 1) 9 Sk)]) sz [.ref hs, .int p1]) ((fun A : Nat → Prop => va_Qi (fun (r : Int32) (u : (Nat → Int32) × (Nat → Int32)) => post r u.1 u.2) (xB D (xTys d) A (fun (u : (Nat → Int32) × (Nat → Int32)) => [(hs, .inr (2, [.ref h1, .ref h2, .ref h3, .ref h4, .ref h5, .int (u.2 5), .int (u.2 6), .int (u.2 7), .int (u.2 8), .int (u.2 9), .int (u.2 10), .int (u.2 11), .int (u.2 12), .int (u.2 13), .int (u.2 14), .int (u.2 15), .int (u.2 16)])), (h1, xI (d 0) 9 Nn), (h2, xI (d 0) 9 u.1), (h3, xI (d 0) 61 Mk), (h4, xI (d 1) 9 Sk)])) A) (va_A ([(hs, .inr (2, [.ref h1, .ref h2, .ref h3, .ref h4, .ref h5, .int (G 5), .int (G 6), .int (G 7), .int (G 8), .int (G 9), .int (G 10), .int (G 11), .int (G 12), .int (G 13), .int (G 14), .int (G 15), .int (G 16)])), (h1, xI (d 0) 9 Nn), (h2, xI (d 0) 9 Hh), (h3, xI (d 0) 61 Mk), (h4, xI (d 1) 9 Sk)]) sz)) 0 0 (va_A ([(hs, .inr (2, [.ref h1, .ref h2, .ref h3, .ref h4, .ref h5, .int (G 5), .int (G 6), .int (G 7), .int (G 8), .int (G 9), .int (G 10), .int (G 11), .int (G 12), .int (G 13), .int (G 14), .int (G 15), .int (G 16)])), (h1, xI (d 0) 9 Nn), (h2, xI (d 0) 9 Hh), (h3, xI (d 0) 61 Mk), (h4, xI (d 1) 9 Sk)]) sz) := by
  refine x_start (QcA := fun A => va_Qi (fun (r : Int32) (u : (Nat → Int32) × (Nat → Int32)) => post r u.1 u.2) (xB D (xTys d) A (fun (u : (Nat → Int32) × (Nat → Int32)) => [(hs, .inr (2, [.ref h1, .ref h2, .ref h3, .ref h4, .ref h5, .int (u.2 5), .int (u.2 6), .int (u.2 7), .int (u.2 8), .int (u.2 9), .int (u.2 10), .int (u.2 11), .int (u.2 12), .int (u.2 13), .int (u.2 14), .int (u.2 15), .int (u.2 16)])), (h1, xI (d 0) 9 Nn), (h2, xI (d 0) 9 u.1), (h3, xI (d 0) 61 Mk), (h4, xI (d 1) 9 Sk)])) A) hE (by decide) (Nat.le_of_ble_eq_true rfl) ?_
  intro p e s m below meth c A C H locs hsz T ls hl
  obtain ⟨hx, hb, hr, hlk, hml, hown, hts, hA⟩ := id C
  replace hl : lv_has ls 4 [(0, .ref hs), (1, .int p1)] := hl
  unfold wpX4_draws at hw
  refine lv_iconst (v := 0) hx hb dX4_draws_0 (by decide) ?_
  refine lv_istore_n (lv' := [(2, .int 0), (0, .ref hs), (1, .int p1)]) hx hb dX4_draws_1 rfl hl (by decide) rfl (fun ls hl => ?_)
  refine lv_iconst (v := 0) hx hb dX4_draws_2 (by decide) ?_
  refine lv_istore_n (lv' := [(3, .int 0), (2, .int 0), (0, .ref hs), (1, .int p1)]) hx hb dX4_draws_3 rfl hl (by decide) rfl (fun ls hl => ?_)
  obtain ⟨fu4, hw⟩ := hw
  exact wkX4_draws_4 l hE D d hs h1 h2 h3 h4 h5 post C  p1 Nn Mk Sk fu4 0 0 G Hh hw _ _ T _ (lv_sub hl [2, 3, 1, 0] rfl)
def wX4_drawsAll_2 (post : Int32 → (Nat → Int32) → (Nat → Int32) → Prop) (Nn : Nat → Int32) (Mk : Nat → Int32) (Sk : Nat → Int32) : Nat → Int32 → (Nat → Int32) → (Nat → Int32) → Prop
  | 0 => fun _ _ _ => False
  | k9 + 1 => fun x1 G Hh => (wpX4_drawsOne (fun b_1 Hh_2 G_3 => (((bI b_1) = 0 → (post x1 Hh_2 G_3)) ∧ (¬ (bI b_1) = 0 → (∀ x1_5 : Int32, x1_5 = x1 + 1 → (wX4_drawsAll_2 post Nn Mk Sk k9 x1_5 G_3 Hh_2))))) G Nn Hh Mk Sk)
def wpX4_drawsAll (post : Int32 → (Nat → Int32) → (Nat → Int32) → Prop) (G : Nat → Int32) (Nn : Nat → Int32) (Hh : Nat → Int32) (Mk : Nat → Int32) (Sk : Nat → Int32) : Prop := (∃ fu2 : Nat, wX4_drawsAll_2 post Nn Mk Sk fu2 0 G Hh)
set_option maxHeartbeats 4000000 in
set_option maxRecDepth 100000 in
theorem wkX4_drawsAll_2 (l : Launch) {κ : xK} {E : xEnv} (hE : xStable κ E) (D : va_G) (d : Nat → ClassId) (hs h1 h2 h3 h4 h5 : Nat) (post : Int32 → (Nat → Int32) → (Nat → Int32) → Prop) {p : Program} {e : Env} {s : State} {m : MethodId} {args : Array Value} {below : List Frame} {meth : Method} {c : Code} {A : Nat → Prop} (C : xC RX4 cX4_drawsAll 2 (some .int) p s m args meth c A) (Nn : Nat → Int32) (Mk : Nat → Int32) (Sk : Nat → Int32) : ∀ (k9 : Nat) (x1 : Int32) (G : Nat → Int32) (Hh : Nat → Int32), wX4_drawsAll_2 post Nn Mk Sk k9 x1 G Hh → ∀ (H : Heap) (locs : List Loc), xT E D (xTys d) A s H locs ([(hs, .inr (2, [.ref h1, .ref h2, .ref h3, .ref h4, .ref h5, .int (G 5), .int (G 6), .int (G 7), .int (G 8), .int (G 9), .int (G 10), .int (G 11), .int (G 12), .int (G 13), .int (G 14), .int (G 15), .int (G 16)])), (h1, xI (d 0) 9 Nn), (h2, xI (d 0) 9 Hh), (h3, xI (d 0) 61 Mk), (h4, xI (d 1) 9 Sk)]) → ∀ ls : Array Slot, lv_has ls 2 [(0, .ref hs), (1, .int x1)] → W p l e (headSpec (ws_ yX4_drawsAll cX4_drawsAll 2 (some .int)) ({ frames := 7, cells := 0, slots := 0, locals := 128 } : Room)).room s m args below meth c H locs 0 0 (MQ below (va_Qi (fun (r : Int32) (u : (Nat → Int32) × (Nat → Int32)) => post r u.1 u.2) (xB D (xTys d) A (fun (u : (Nat → Int32) × (Nat → Int32)) => [(hs, .inr (2, [.ref h1, .ref h2, .ref h3, .ref h4, .ref h5, .int (u.2 5), .int (u.2 6), .int (u.2 7), .int (u.2 8), .int (u.2 9), .int (u.2 10), .int (u.2 11), .int (u.2 12), .int (u.2 13), .int (u.2 14), .int (u.2 15), .int (u.2 16)])), (h1, xI (d 0) 9 Nn), (h2, xI (d 0) 9 u.1), (h3, xI (d 0) 61 Mk), (h4, xI (d 1) 9 Sk)])) A) args s 0 0 A) (F0 m 2 ls []) := by
  obtain ⟨hx, hb, hr, hlk, hml, hown, hts, hA⟩ := id C
  intro k9
  induction k9 with
  | zero =>
    intro x1 G Hh hw
    exact hw.elim
  | succ k9 ih =>
    intro x1 G Hh hw H locs T ls hl
    rw [wX4_drawsAll_2] at hw
    refine lv_aload_n hx hb dX4_drawsAll_2 rfl (lv_at hl 0 rfl) ?_
    refine x_ki (X := [(hs, .inr (2, [.ref h1, .ref h2, .ref h3, .ref h4, .ref h5, .int (G 5), .int (G 6), .int (G 7), .int (G 8), .int (G 9), .int (G 10), .int (G 11), .int (G 12), .int (G 13), .int (G 14), .int (G 15), .int (G 16)])), (h1, xI (d 0) 9 Nn), (h2, xI (d 0) 9 Hh), (h3, xI (d 0) 61 Mk), (h4, xI (d 1) 9 Sk)]) (pl := []) (wc := [(hs, .inr (2, [.ref h1, .ref h2, .ref h3, .ref h4, .ref h5, .int (G 5), .int (G 6), .int (G 7), .int (G 8), .int (G 9), .int (G 10), .int (G 11), .int (G 12), .int (G 13), .int (G 14), .int (G 15), .int (G 16)])), (h1, xI (d 0) 9 Nn), (h2, xI (d 0) 9 Hh), (h3, xI (d 0) 61 Mk), (h4, xI (d 1) 9 Sk)]) (wr := []) C T [0, 1, 2, 3, 4] [] rfl rfl rfl (by decide) rfl (x_rV (As := []) (rest := []) C (x_preq hE T [0, 1, 2, 3, 4] rfl rfl (fun U hU hW => (x_envT (X := [(hs, .inr (2, [.ref h1, .ref h2, .ref h3, .ref h4, .ref h5, .int (G 5), .int (G 6), .int (G 7), .int (G 8), .int (G 9), .int (G 10), .int (G 11), .int (G 12), .int (G 13), .int (G 14), .int (G 15), .int (G 16)])), (h1, xI (d 0) 9 Nn), (h2, xI (d 0) 9 Hh), (h3, xI (d 0) 61 Mk), (h4, xI (d 1) 9 Sk)]) (pl := []) hE C T [0, 1, 2, 3, 4] rfl U hU hW)) _) (mtX4_drawsOne l hE D d hs h1 h2 h3 h4 h5 G Nn Hh Mk Sk H.size _ hw) (cwV 0 hts (lw_V q1133 q1135 qs22 q108 q1136) rfl rfl rfl (by decide +kernel) ⟨Nat.le_of_ble_eq_true rfl, Nat.le_of_ble_eq_true rfl⟩) (x_recvA T (ci := 2) rfl (T.at0 0 rfl)) rfl hl.1 (lv_room (Nat.le_of_ble_eq_true rfl)) dX4_drawsAll_3 ⟨(Nat.le_of_ble_eq_true rfl), (Nat.le_of_ble_eq_true rfl)⟩) (fun r u H locs hw T => ?_)
    obtain ⟨b_1, rfl, hw⟩ := hw
    obtain ⟨Hh_2, G_3⟩ := u
    replace T : xT E D (xTys d) A s H locs ([(hs, .inr (2, [.ref h1, .ref h2, .ref h3, .ref h4, .ref h5, .int (G_3 5), .int (G_3 6), .int (G_3 7), .int (G_3 8), .int (G_3 9), .int (G_3 10), .int (G_3 11), .int (G_3 12), .int (G_3 13), .int (G_3 14), .int (G_3 15), .int (G_3 16)])), (h1, xI (d 0) 9 Nn), (h2, xI (d 0) 9 Hh_2), (h3, xI (d 0) 61 Mk), (h4, xI (d 1) 9 Sk)]) := T
    refine lv_if_eq (tgt := 15) hx hb dX4_drawsAll_6 (by decide) (fun c_4 => ?_) (fun c_4 => ?_)
    · replace hw := hw.1 c_4
      refine lv_iload_n hx hb dX4_drawsAll_15 rfl (lv_at hl 1 rfl) ?_
      exact x_iret (u := (Hh_2, G_3)) C T hw (Nat.le_of_ble_eq_true rfl) (Nat.le_of_ble_eq_true rfl) dX4_drawsAll_16
    · replace hw := hw.2 c_4
      obtain ⟨x1_5, ex1_5⟩ : ∃ z : Int32, z = x1 + 1 := ⟨_, rfl⟩
      replace hw := hw x1_5 ex1_5
      refine lv_iinc (v := x1_5) (lv' := [(1, .int x1_5), (0, .ref hs)]) hx hb dX4_drawsAll_9 hl (k := 1) rfl (by rw [ex1_5]; rfl) (by decide) rfl (fun ls hl => ?_)
      refine lv_goto (tgt := 2) hx hb dX4_drawsAll_12 (by decide) ?_
      exact ih x1_5 G_3 Hh_2 hw _ _ T _ (lv_sub hl [1, 0] rfl)
set_option maxHeartbeats 4000000 in
set_option maxRecDepth 100000 in
theorem mtX4_drawsAll (l : Launch) {κ : xK} {E : xEnv} (hE : xStable κ E) (D : va_G) (d : Nat → ClassId) (hs h1 h2 h3 h4 h5 : Nat) (G : Nat → Int32) (Nn : Nat → Int32) (Hh : Nat → Int32) (Mk : Nat → Int32) (Sk : Nat → Int32) (sz : Nat) (post : Int32 → (Nat → Int32) → (Nat → Int32) → Prop) (hw : wpX4_drawsAll post G Nn Hh Mk Sk) : Met l yX4_drawsAll (ws_ yX4_drawsAll cX4_drawsAll 2 (some .int)) ({ frames := 7, cells := 0, slots := 0, locals := 128 } : Room) (xPc E D (xTys d) ([(hs, .inr (2, [.ref h1, .ref h2, .ref h3, .ref h4, .ref h5, .int (G 5), .int (G 6), .int (G 7), .int (G 8), .int (G 9), .int (G 10), .int (G 11), .int (G 12), .int (G 13), .int (G 14), .int (G 15), .int (G 16)])), (h1, xI (d 0) 9 Nn), (h2, xI (d 0) 9 Hh), (h3, xI (d 0) 61 Mk), (h4, xI (d 1) 9 Sk)]) sz [.ref hs]) ((fun A : Nat → Prop => va_Qi (fun (r : Int32) (u : (Nat → Int32) × (Nat → Int32)) => post r u.1 u.2) (xB D (xTys d) A (fun (u : (Nat → Int32) × (Nat → Int32)) => [(hs, .inr (2, [.ref h1, .ref h2, .ref h3, .ref h4, .ref h5, .int (u.2 5), .int (u.2 6), .int (u.2 7), .int (u.2 8), .int (u.2 9), .int (u.2 10), .int (u.2 11), .int (u.2 12), .int (u.2 13), .int (u.2 14), .int (u.2 15), .int (u.2 16)])), (h1, xI (d 0) 9 Nn), (h2, xI (d 0) 9 u.1), (h3, xI (d 0) 61 Mk), (h4, xI (d 1) 9 Sk)])) A) (va_A ([(hs, .inr (2, [.ref h1, .ref h2, .ref h3, .ref h4, .ref h5, .int (G 5), .int (G 6), .int (G 7), .int (G 8), .int (G 9), .int (G 10), .int (G 11), .int (G 12), .int (G 13), .int (G 14), .int (G 15), .int (G 16)])), (h1, xI (d 0) 9 Nn), (h2, xI (d 0) 9 Hh), (h3, xI (d 0) 61 Mk), (h4, xI (d 1) 9 Sk)]) sz)) 0 0 (va_A ([(hs, .inr (2, [.ref h1, .ref h2, .ref h3, .ref h4, .ref h5, .int (G 5), .int (G 6), .int (G 7), .int (G 8), .int (G 9), .int (G 10), .int (G 11), .int (G 12), .int (G 13), .int (G 14), .int (G 15), .int (G 16)])), (h1, xI (d 0) 9 Nn), (h2, xI (d 0) 9 Hh), (h3, xI (d 0) 61 Mk), (h4, xI (d 1) 9 Sk)]) sz) := by
  refine x_start (QcA := fun A => va_Qi (fun (r : Int32) (u : (Nat → Int32) × (Nat → Int32)) => post r u.1 u.2) (xB D (xTys d) A (fun (u : (Nat → Int32) × (Nat → Int32)) => [(hs, .inr (2, [.ref h1, .ref h2, .ref h3, .ref h4, .ref h5, .int (u.2 5), .int (u.2 6), .int (u.2 7), .int (u.2 8), .int (u.2 9), .int (u.2 10), .int (u.2 11), .int (u.2 12), .int (u.2 13), .int (u.2 14), .int (u.2 15), .int (u.2 16)])), (h1, xI (d 0) 9 Nn), (h2, xI (d 0) 9 u.1), (h3, xI (d 0) 61 Mk), (h4, xI (d 1) 9 Sk)])) A) hE (by decide) (Nat.le_of_ble_eq_true rfl) ?_
  intro p e s m below meth c A C H locs hsz T ls hl
  obtain ⟨hx, hb, hr, hlk, hml, hown, hts, hA⟩ := id C
  replace hl : lv_has ls 2 [(0, .ref hs)] := hl
  unfold wpX4_drawsAll at hw
  refine lv_iconst (v := 0) hx hb dX4_drawsAll_0 (by decide) ?_
  refine lv_istore_n (lv' := [(1, .int 0), (0, .ref hs)]) hx hb dX4_drawsAll_1 rfl hl (by decide) rfl (fun ls hl => ?_)
  obtain ⟨fu2, hw⟩ := hw
  exact wkX4_drawsAll_2 l hE D d hs h1 h2 h3 h4 h5 post C  Nn Mk Sk fu2 0 G Hh hw _ _ T _ (lv_sub hl [1, 0] rfl)
def wpX4_heaps (post : (Nat → Int32) → (Nat → Int32) → Prop) (G : Nat → Int32) (Nn : Nat → Int32) (Hh : Nat → Int32) (Mk : Nat → Int32) (Sk : Nat → Int32) (p1 : Int32) (p2 : Int32) : Prop := (wpX4_depth (fun r_1 => (vp_in p1 9 ∧ (∀ x3_2 : Int32, x3_2 = (if (r_1 - (Hh p1.toNatClampNeg)) < p2 then (r_1 - (Hh p1.toNatClampNeg)) else p2) → (vp_in p1 9 ∧ (vp_in p1 9 ∧ (∀ Hh_3 : Nat → Int32, Hh_3 = upd Hh p1.toNatClampNeg ((Hh p1.toNatClampNeg) + x3_2) → (∀ f_4 : Int32, f_4 = (G 15) + x3_2 → (∀ G_5 : Nat → Int32, G_5 = upd G 15 f_4 → (wpX4_slides (fun r_6 Hh_7 G_8 => (post Hh_7 G_8)) G_5 Nn Hh_3 Mk Sk))))))))) Nn)
set_option maxHeartbeats 4000000 in
set_option maxRecDepth 100000 in
theorem mtX4_heaps (l : Launch) {κ : xK} {E : xEnv} (hE : xStable κ E) (D : va_G) (d : Nat → ClassId) (hs h1 h2 h3 h4 h5 : Nat) (G : Nat → Int32) (Nn : Nat → Int32) (Hh : Nat → Int32) (Mk : Nat → Int32) (Sk : Nat → Int32) (p1 : Int32) (p2 : Int32) (sz : Nat) (post : (Nat → Int32) → (Nat → Int32) → Prop) (hw : wpX4_heaps post G Nn Hh Mk Sk p1 p2) : Met l yX4_heaps (ws_ yX4_heaps cX4_heaps 5 none) ({ frames := 6, cells := 0, slots := 0, locals := 107 } : Room) (xPc E D (xTys d) ([(hs, .inr (2, [.ref h1, .ref h2, .ref h3, .ref h4, .ref h5, .int (G 5), .int (G 6), .int (G 7), .int (G 8), .int (G 9), .int (G 10), .int (G 11), .int (G 12), .int (G 13), .int (G 14), .int (G 15), .int (G 16)])), (h1, xI (d 0) 9 Nn), (h2, xI (d 0) 9 Hh), (h3, xI (d 0) 61 Mk), (h4, xI (d 1) 9 Sk)]) sz [.ref hs, .int p1, .int p2]) ((fun A : Nat → Prop => va_Qv (fun (u : (Nat → Int32) × (Nat → Int32)) => post u.1 u.2) (xB D (xTys d) A (fun (u : (Nat → Int32) × (Nat → Int32)) => [(hs, .inr (2, [.ref h1, .ref h2, .ref h3, .ref h4, .ref h5, .int (u.2 5), .int (u.2 6), .int (u.2 7), .int (u.2 8), .int (u.2 9), .int (u.2 10), .int (u.2 11), .int (u.2 12), .int (u.2 13), .int (u.2 14), .int (u.2 15), .int (u.2 16)])), (h1, xI (d 0) 9 Nn), (h2, xI (d 0) 9 u.1), (h3, xI (d 0) 61 Mk), (h4, xI (d 1) 9 Sk)])) A) (va_A ([(hs, .inr (2, [.ref h1, .ref h2, .ref h3, .ref h4, .ref h5, .int (G 5), .int (G 6), .int (G 7), .int (G 8), .int (G 9), .int (G 10), .int (G 11), .int (G 12), .int (G 13), .int (G 14), .int (G 15), .int (G 16)])), (h1, xI (d 0) 9 Nn), (h2, xI (d 0) 9 Hh), (h3, xI (d 0) 61 Mk), (h4, xI (d 1) 9 Sk)]) sz)) 0 0 (va_A ([(hs, .inr (2, [.ref h1, .ref h2, .ref h3, .ref h4, .ref h5, .int (G 5), .int (G 6), .int (G 7), .int (G 8), .int (G 9), .int (G 10), .int (G 11), .int (G 12), .int (G 13), .int (G 14), .int (G 15), .int (G 16)])), (h1, xI (d 0) 9 Nn), (h2, xI (d 0) 9 Hh), (h3, xI (d 0) 61 Mk), (h4, xI (d 1) 9 Sk)]) sz) := by
  refine x_start (QcA := fun A => va_Qv (fun (u : (Nat → Int32) × (Nat → Int32)) => post u.1 u.2) (xB D (xTys d) A (fun (u : (Nat → Int32) × (Nat → Int32)) => [(hs, .inr (2, [.ref h1, .ref h2, .ref h3, .ref h4, .ref h5, .int (u.2 5), .int (u.2 6), .int (u.2 7), .int (u.2 8), .int (u.2 9), .int (u.2 10), .int (u.2 11), .int (u.2 12), .int (u.2 13), .int (u.2 14), .int (u.2 15), .int (u.2 16)])), (h1, xI (d 0) 9 Nn), (h2, xI (d 0) 9 u.1), (h3, xI (d 0) 61 Mk), (h4, xI (d 1) 9 Sk)])) A) hE (by decide) (Nat.le_of_ble_eq_true rfl) ?_
  intro p e s m below meth c A C H locs hsz T ls hl
  obtain ⟨hx, hb, hr, hlk, hml, hown, hts, hA⟩ := id C
  replace hl : lv_has ls 5 [(0, .ref hs), (1, .int p1), (2, .int p2)] := hl
  unfold wpX4_heaps at hw
  refine lv_iload_n hx hb dX4_heaps_0 rfl (lv_at hl 2 rfl) ?_
  refine lv_aload_n hx hb dX4_heaps_1 rfl (lv_at hl 0 rfl) ?_
  refine x_ki (X := [(hs, .inr (2, [.ref h1, .ref h2, .ref h3, .ref h4, .ref h5, .int (G 5), .int (G 6), .int (G 7), .int (G 8), .int (G 9), .int (G 10), .int (G 11), .int (G 12), .int (G 13), .int (G 14), .int (G 15), .int (G 16)])), (h1, xI (d 0) 9 Nn), (h2, xI (d 0) 9 Hh), (h3, xI (d 0) 61 Mk), (h4, xI (d 1) 9 Sk)]) (pl := []) (wc := [(hs, .inr (2, [.ref h1, .ref h2, .ref h3, .ref h4, .ref h5, .int (G 5), .int (G 6), .int (G 7), .int (G 8), .int (G 9), .int (G 10), .int (G 11), .int (G 12), .int (G 13), .int (G 14), .int (G 15), .int (G 16)])), (h1, xI (d 0) 9 Nn), (h2, xI (d 0) 9 Hh), (h3, xI (d 0) 61 Mk), (h4, xI (d 1) 9 Sk)]) (wr := []) C T [0, 1, 2, 3, 4] [] rfl rfl rfl (by decide) rfl (x_rV (As := []) (rest := [.int p2]) C (x_preq hE T [0, 1, 2, 3, 4] rfl rfl (fun U hU hW => (x_envT (X := [(hs, .inr (2, [.ref h1, .ref h2, .ref h3, .ref h4, .ref h5, .int (G 5), .int (G 6), .int (G 7), .int (G 8), .int (G 9), .int (G 10), .int (G 11), .int (G 12), .int (G 13), .int (G 14), .int (G 15), .int (G 16)])), (h1, xI (d 0) 9 Nn), (h2, xI (d 0) 9 Hh), (h3, xI (d 0) 61 Mk), (h4, xI (d 1) 9 Sk)]) (pl := []) hE C T [0, 1, 2, 3, 4] rfl U hU hW)) _) (mtX4_depth l hE D d hs h1 h2 h3 h4 h5 G Nn Hh Mk Sk H.size _ hw) (cwV 0 hts (lw_V q963 q956 q957 q108 q958) rfl rfl rfl (by decide +kernel) ⟨Nat.le_of_ble_eq_true rfl, Nat.le_of_ble_eq_true rfl⟩) (x_recvA T (ci := 2) rfl (T.at0 0 rfl)) rfl hl.1 (lv_room (Nat.le_of_ble_eq_true rfl)) dX4_heaps_2 ⟨(Nat.le_of_ble_eq_true rfl), (Nat.le_of_ble_eq_true rfl)⟩) (fun r u H locs hw T => ?_)
  obtain ⟨r_1, rfl⟩ : ∃ z, z = r := ⟨_, rfl⟩
  replace T : xT E D (xTys d) A s H locs ([(hs, .inr (2, [.ref h1, .ref h2, .ref h3, .ref h4, .ref h5, .int (G 5), .int (G 6), .int (G 7), .int (G 8), .int (G 9), .int (G 10), .int (G 11), .int (G 12), .int (G 13), .int (G 14), .int (G 15), .int (G 16)])), (h1, xI (d 0) 9 Nn), (h2, xI (d 0) 9 Hh), (h3, xI (d 0) 61 Mk), (h4, xI (d 1) 9 Sk)]) := T
  refine lv_aload_n hx hb dX4_heaps_5 rfl (lv_at hl 0 rfl) ?_
  refine x_getA (v := .ref h2) (ci := 2) C T (T.at0 0 rfl) rfl 1 (by decide) in_X4 q647 rfl dX4_heaps_6 ?_
  refine lv_iload_n hx hb dX4_heaps_9 rfl (lv_at hl 1 rfl) ?_
  refine x_ialdE C T 0 (T.at0 2 rfl) rfl hw.1 rfl dX4_heaps_10 ?_
  replace hw := hw.2
  refine lv_isub hx hb dX4_heaps_11 ?_
  refine va_mmin hx hb (hml.trans hl.1.symm) hown (hts _ q964) (hts _ q454) (hts _ q116) (hts _ q455) (Nat.le_of_ble_eq_true rfl) (Nat.le_of_ble_eq_true rfl) (Nat.le_of_ble_eq_true rfl) (Nat.le_of_ble_eq_true rfl) dX4_heaps_12 ?_
  refine lv_topi (fun x3_2 ex3_2 => ?_)
  replace hw := hw x3_2 ex3_2
  refine lv_istore_n (lv' := [(3, .int x3_2), (0, .ref hs), (1, .int p1), (2, .int p2)]) hx hb dX4_heaps_15 rfl hl (by decide) rfl (fun ls hl => ?_)
  refine lv_aload_n hx hb dX4_heaps_16 rfl (lv_at hl 1 rfl) ?_
  refine x_getA (v := .ref h2) (ci := 2) C T (T.at0 0 rfl) rfl 1 (by decide) in_X4 q647 rfl dX4_heaps_17 ?_
  refine lv_iload_n hx hb dX4_heaps_20 rfl (lv_at hl 2 rfl) ?_
  refine lv_dup2_11 hx hb dX4_heaps_21 rfl rfl ?_
  refine x_ialdE C T 0 (T.at0 2 rfl) rfl hw.1 rfl dX4_heaps_22 ?_
  replace hw := hw.2
  refine lv_iload_n hx hb dX4_heaps_23 rfl (lv_at hl 0 rfl) ?_
  refine lv_iadd hx hb dX4_heaps_24 ?_
  refine x_iast C T 2 0 rfl rfl hw.1 rfl dX4_heaps_25 (fun H locs T => ?_)
  replace hw := hw.2
  obtain ⟨Hh_3, eHh_3⟩ : ∃ z : Nat → Int32, z = upd Hh p1.toNatClampNeg ((Hh p1.toNatClampNeg) + x3_2) := ⟨_, rfl⟩
  replace T : xT E D (xTys d) A s H locs ([(hs, .inr (2, [.ref h1, .ref h2, .ref h3, .ref h4, .ref h5, .int (G 5), .int (G 6), .int (G 7), .int (G 8), .int (G 9), .int (G 10), .int (G 11), .int (G 12), .int (G 13), .int (G 14), .int (G 15), .int (G 16)])), (h1, xI (d 0) 9 Nn), (h2, xI (d 0) 9 Hh_3), (h3, xI (d 0) 61 Mk), (h4, xI (d 1) 9 Sk)]) := by rw [eHh_3]; exact T
  replace hw := hw Hh_3 eHh_3
  refine lv_aload_n hx hb dX4_heaps_26 rfl (lv_at hl 1 rfl) ?_
  refine lv_dup hx hb dX4_heaps_27 rfl ?_
  refine x_getA (v := .int (G 15)) (ci := 2) C T (T.at0 0 rfl) rfl 15 (by decide) in_X4 q679 rfl dX4_heaps_28 ?_
  refine lv_iload_n hx hb dX4_heaps_31 rfl (lv_at hl 0 rfl) ?_
  refine lv_iadd hx hb dX4_heaps_32 ?_
  refine lv_topi (fun f_4 ef_4 => ?_)
  replace hw := hw f_4 ef_4
  refine x_put (v := .int f_4) (ty := .int) C T tyX4 tyX4_ok nmX4 0 rfl rfl 15 (by decide) in_X4 q679 rfl (by decide +kernel) rfl rfl (Nat.le_of_ble_eq_true rfl) dX4_heaps_33 (fun H locs T => ?_)
  obtain ⟨G_5, eG_5⟩ : ∃ z : Nat → Int32, z = upd G 15 f_4 := ⟨_, rfl⟩
  replace T : xT E D (xTys d) A s H locs ([(hs, .inr (2, [.ref h1, .ref h2, .ref h3, .ref h4, .ref h5, .int (G_5 5), .int (G_5 6), .int (G_5 7), .int (G_5 8), .int (G_5 9), .int (G_5 10), .int (G_5 11), .int (G_5 12), .int (G_5 13), .int (G_5 14), .int (G_5 15), .int (G_5 16)])), (h1, xI (d 0) 9 Nn), (h2, xI (d 0) 9 Hh_3), (h3, xI (d 0) 61 Mk), (h4, xI (d 1) 9 Sk)]) := by rw [eG_5]; exact T
  replace hw := hw G_5 eG_5
  refine lv_aload_n hx hb dX4_heaps_36 rfl (lv_at hl 1 rfl) ?_
  refine x_ki (X := [(hs, .inr (2, [.ref h1, .ref h2, .ref h3, .ref h4, .ref h5, .int (G_5 5), .int (G_5 6), .int (G_5 7), .int (G_5 8), .int (G_5 9), .int (G_5 10), .int (G_5 11), .int (G_5 12), .int (G_5 13), .int (G_5 14), .int (G_5 15), .int (G_5 16)])), (h1, xI (d 0) 9 Nn), (h2, xI (d 0) 9 Hh_3), (h3, xI (d 0) 61 Mk), (h4, xI (d 1) 9 Sk)]) (pl := []) (wc := [(hs, .inr (2, [.ref h1, .ref h2, .ref h3, .ref h4, .ref h5, .int (G_5 5), .int (G_5 6), .int (G_5 7), .int (G_5 8), .int (G_5 9), .int (G_5 10), .int (G_5 11), .int (G_5 12), .int (G_5 13), .int (G_5 14), .int (G_5 15), .int (G_5 16)])), (h1, xI (d 0) 9 Nn), (h2, xI (d 0) 9 Hh_3), (h3, xI (d 0) 61 Mk), (h4, xI (d 1) 9 Sk)]) (wr := []) C T [0, 1, 2, 3, 4] [] rfl rfl rfl (by decide) rfl (x_rV (As := []) (rest := []) C (x_preq hE T [0, 1, 2, 3, 4] rfl rfl (fun U hU hW => (x_envT (X := [(hs, .inr (2, [.ref h1, .ref h2, .ref h3, .ref h4, .ref h5, .int (G_5 5), .int (G_5 6), .int (G_5 7), .int (G_5 8), .int (G_5 9), .int (G_5 10), .int (G_5 11), .int (G_5 12), .int (G_5 13), .int (G_5 14), .int (G_5 15), .int (G_5 16)])), (h1, xI (d 0) 9 Nn), (h2, xI (d 0) 9 Hh_3), (h3, xI (d 0) 61 Mk), (h4, xI (d 1) 9 Sk)]) (pl := []) hE C T [0, 1, 2, 3, 4] rfl U hU hW)) _) (mtX4_slides l hE D d hs h1 h2 h3 h4 h5 G_5 Nn Hh_3 Mk Sk H.size _ hw) (cwV 0 hts (lw_V q965 q966 q967 q108 q968) rfl rfl rfl (by decide +kernel) ⟨Nat.le_of_ble_eq_true rfl, Nat.le_of_ble_eq_true rfl⟩) (x_recvA T (ci := 2) rfl (T.at0 0 rfl)) rfl hl.1 (lv_room (Nat.le_of_ble_eq_true rfl)) dX4_heaps_37 ⟨(Nat.le_of_ble_eq_true rfl), (Nat.le_of_ble_eq_true rfl)⟩) (fun r u H locs hw T => ?_)
  obtain ⟨r_6, rfl⟩ : ∃ z, z = r := ⟨_, rfl⟩
  obtain ⟨Hh_7, G_8⟩ := u
  replace T : xT E D (xTys d) A s H locs ([(hs, .inr (2, [.ref h1, .ref h2, .ref h3, .ref h4, .ref h5, .int (G_8 5), .int (G_8 6), .int (G_8 7), .int (G_8 8), .int (G_8 9), .int (G_8 10), .int (G_8 11), .int (G_8 12), .int (G_8 13), .int (G_8 14), .int (G_8 15), .int (G_8 16)])), (h1, xI (d 0) 9 Nn), (h2, xI (d 0) 9 Hh_7), (h3, xI (d 0) 61 Mk), (h4, xI (d 1) 9 Sk)]) := T
  refine lv_istore (lv' := [(4, .int r_6), (3, .int x3_2), (0, .ref hs), (1, .int p1), (2, .int p2)]) hx hb dX4_heaps_40 hl (by decide) rfl (fun ls hl => ?_)
  exact x_vret (u := (Hh_7, G_8)) C T hw (Nat.le_of_ble_eq_true rfl) (Nat.le_of_ble_eq_true rfl) dX4_heaps_42
def wpX4_heapLevel (post : Int32 → Prop) (Nn : Nat → Int32) (Hh : Nat → Int32) : Prop := (vp_in (Nn 4) 9 ∧ (post (Hh (Nn 4).toNatClampNeg)))
set_option maxHeartbeats 4000000 in
set_option maxRecDepth 100000 in
theorem mtX4_heapLevel (l : Launch) {κ : xK} {E : xEnv} (hE : xStable κ E) (D : va_G) (d : Nat → ClassId) (hs h1 h2 h3 h4 h5 : Nat) (G : Nat → Int32) (Nn : Nat → Int32) (Hh : Nat → Int32) (Mk : Nat → Int32) (Sk : Nat → Int32) (sz : Nat) (post : Int32 → Prop) (hw : wpX4_heapLevel post Nn Hh) : Met l yX4_heapLevel (ws_ yX4_heapLevel cX4_heapLevel 1 (some .int)) ({ frames := 1, cells := 0, slots := 0, locals := 0 } : Room) (xPc E D (xTys d) ([(hs, .inr (2, [.ref h1, .ref h2, .ref h3, .ref h4, .ref h5, .int (G 5), .int (G 6), .int (G 7), .int (G 8), .int (G 9), .int (G 10), .int (G 11), .int (G 12), .int (G 13), .int (G 14), .int (G 15), .int (G 16)])), (h1, xI (d 0) 9 Nn), (h2, xI (d 0) 9 Hh), (h3, xI (d 0) 61 Mk), (h4, xI (d 1) 9 Sk)]) sz [.ref hs]) ((fun A : Nat → Prop => va_Qi (fun (r : Int32) (u : Unit) => post r) (xB D (xTys d) A (fun (u : Unit) => [(hs, .inr (2, [.ref h1, .ref h2, .ref h3, .ref h4, .ref h5, .int (G 5), .int (G 6), .int (G 7), .int (G 8), .int (G 9), .int (G 10), .int (G 11), .int (G 12), .int (G 13), .int (G 14), .int (G 15), .int (G 16)])), (h1, xI (d 0) 9 Nn), (h2, xI (d 0) 9 Hh), (h3, xI (d 0) 61 Mk), (h4, xI (d 1) 9 Sk)])) A) (va_A ([(hs, .inr (2, [.ref h1, .ref h2, .ref h3, .ref h4, .ref h5, .int (G 5), .int (G 6), .int (G 7), .int (G 8), .int (G 9), .int (G 10), .int (G 11), .int (G 12), .int (G 13), .int (G 14), .int (G 15), .int (G 16)])), (h1, xI (d 0) 9 Nn), (h2, xI (d 0) 9 Hh), (h3, xI (d 0) 61 Mk), (h4, xI (d 1) 9 Sk)]) sz)) 0 0 (va_A ([(hs, .inr (2, [.ref h1, .ref h2, .ref h3, .ref h4, .ref h5, .int (G 5), .int (G 6), .int (G 7), .int (G 8), .int (G 9), .int (G 10), .int (G 11), .int (G 12), .int (G 13), .int (G 14), .int (G 15), .int (G 16)])), (h1, xI (d 0) 9 Nn), (h2, xI (d 0) 9 Hh), (h3, xI (d 0) 61 Mk), (h4, xI (d 1) 9 Sk)]) sz) := by
  refine x_start (QcA := fun A => va_Qi (fun (r : Int32) (u : Unit) => post r) (xB D (xTys d) A (fun (u : Unit) => [(hs, .inr (2, [.ref h1, .ref h2, .ref h3, .ref h4, .ref h5, .int (G 5), .int (G 6), .int (G 7), .int (G 8), .int (G 9), .int (G 10), .int (G 11), .int (G 12), .int (G 13), .int (G 14), .int (G 15), .int (G 16)])), (h1, xI (d 0) 9 Nn), (h2, xI (d 0) 9 Hh), (h3, xI (d 0) 61 Mk), (h4, xI (d 1) 9 Sk)])) A) hE (by decide) (Nat.le_of_ble_eq_true rfl) ?_
  intro p e s m below meth c A C H locs hsz T ls hl
  obtain ⟨hx, hb, hr, hlk, hml, hown, hts, hA⟩ := id C
  replace hl : lv_has ls 1 [(0, .ref hs)] := hl
  unfold wpX4_heapLevel at hw
  refine lv_aload_n hx hb dX4_heapLevel_0 rfl (lv_at hl 0 rfl) ?_
  refine x_getA (v := .ref h2) (ci := 2) C T (T.at0 0 rfl) rfl 1 (by decide) in_X4 q647 rfl dX4_heapLevel_1 ?_
  refine lv_aload_n hx hb dX4_heapLevel_4 rfl (lv_at hl 0 rfl) ?_
  refine x_getA (v := .ref h1) (ci := 2) C T (T.at0 0 rfl) rfl 0 (by decide) in_X4 q644 rfl dX4_heapLevel_5 ?_
  refine lv_iconst (v := 4) hx hb dX4_heapLevel_8 (by decide) ?_
  refine x_ialdE (j := 4) C T 0 (T.at0 1 rfl) rfl (x_in (by decide)) (by decide) dX4_heapLevel_9 ?_
  refine x_ialdE C T 0 (T.at0 2 rfl) rfl hw.1 rfl dX4_heapLevel_10 ?_
  replace hw := hw.2
  exact x_iret (u := ()) C T hw (Nat.le_of_ble_eq_true rfl) (Nat.le_of_ble_eq_true rfl) dX4_heapLevel_11
def wpX4_heapWay (post : Int32 → Prop) (G : Nat → Int32) (Nn : Nat → Int32) (Hh : Nat → Int32) (Mk : Nat → Int32) (Sk : Nat → Int32) : Prop := (wpX4_depth (fun r_1 => (wpX4_heapLevel (fun r_2 => (post (r_1 - r_2))) Nn Hh)) Nn)
set_option maxHeartbeats 4000000 in
set_option maxRecDepth 100000 in
theorem mtX4_heapWay (l : Launch) {κ : xK} {E : xEnv} (hE : xStable κ E) (D : va_G) (d : Nat → ClassId) (hs h1 h2 h3 h4 h5 : Nat) (G : Nat → Int32) (Nn : Nat → Int32) (Hh : Nat → Int32) (Mk : Nat → Int32) (Sk : Nat → Int32) (sz : Nat) (post : Int32 → Prop) (hw : wpX4_heapWay post G Nn Hh Mk Sk) : Met l yX4_heapWay (ws_ yX4_heapWay cX4_heapWay 1 (some .int)) ({ frames := 2, cells := 0, slots := 0, locals := 20 } : Room) (xPc E D (xTys d) ([(hs, .inr (2, [.ref h1, .ref h2, .ref h3, .ref h4, .ref h5, .int (G 5), .int (G 6), .int (G 7), .int (G 8), .int (G 9), .int (G 10), .int (G 11), .int (G 12), .int (G 13), .int (G 14), .int (G 15), .int (G 16)])), (h1, xI (d 0) 9 Nn), (h2, xI (d 0) 9 Hh), (h3, xI (d 0) 61 Mk), (h4, xI (d 1) 9 Sk)]) sz [.ref hs]) ((fun A : Nat → Prop => va_Qi (fun (r : Int32) (u : Unit) => post r) (xB D (xTys d) A (fun (u : Unit) => [(hs, .inr (2, [.ref h1, .ref h2, .ref h3, .ref h4, .ref h5, .int (G 5), .int (G 6), .int (G 7), .int (G 8), .int (G 9), .int (G 10), .int (G 11), .int (G 12), .int (G 13), .int (G 14), .int (G 15), .int (G 16)])), (h1, xI (d 0) 9 Nn), (h2, xI (d 0) 9 Hh), (h3, xI (d 0) 61 Mk), (h4, xI (d 1) 9 Sk)])) A) (va_A ([(hs, .inr (2, [.ref h1, .ref h2, .ref h3, .ref h4, .ref h5, .int (G 5), .int (G 6), .int (G 7), .int (G 8), .int (G 9), .int (G 10), .int (G 11), .int (G 12), .int (G 13), .int (G 14), .int (G 15), .int (G 16)])), (h1, xI (d 0) 9 Nn), (h2, xI (d 0) 9 Hh), (h3, xI (d 0) 61 Mk), (h4, xI (d 1) 9 Sk)]) sz)) 0 0 (va_A ([(hs, .inr (2, [.ref h1, .ref h2, .ref h3, .ref h4, .ref h5, .int (G 5), .int (G 6), .int (G 7), .int (G 8), .int (G 9), .int (G 10), .int (G 11), .int (G 12), .int (G 13), .int (G 14), .int (G 15), .int (G 16)])), (h1, xI (d 0) 9 Nn), (h2, xI (d 0) 9 Hh), (h3, xI (d 0) 61 Mk), (h4, xI (d 1) 9 Sk)]) sz) := by
  refine x_start (QcA := fun A => va_Qi (fun (r : Int32) (u : Unit) => post r) (xB D (xTys d) A (fun (u : Unit) => [(hs, .inr (2, [.ref h1, .ref h2, .ref h3, .ref h4, .ref h5, .int (G 5), .int (G 6), .int (G 7), .int (G 8), .int (G 9), .int (G 10), .int (G 11), .int (G 12), .int (G 13), .int (G 14), .int (G 15), .int (G 16)])), (h1, xI (d 0) 9 Nn), (h2, xI (d 0) 9 Hh), (h3, xI (d 0) 61 Mk), (h4, xI (d 1) 9 Sk)])) A) hE (by decide) (Nat.le_of_ble_eq_true rfl) ?_
  intro p e s m below meth c A C H locs hsz T ls hl
  obtain ⟨hx, hb, hr, hlk, hml, hown, hts, hA⟩ := id C
  replace hl : lv_has ls 1 [(0, .ref hs)] := hl
  unfold wpX4_heapWay at hw
  refine lv_aload_n hx hb dX4_heapWay_0 rfl (lv_at hl 0 rfl) ?_
  refine x_ki (X := [(hs, .inr (2, [.ref h1, .ref h2, .ref h3, .ref h4, .ref h5, .int (G 5), .int (G 6), .int (G 7), .int (G 8), .int (G 9), .int (G 10), .int (G 11), .int (G 12), .int (G 13), .int (G 14), .int (G 15), .int (G 16)])), (h1, xI (d 0) 9 Nn), (h2, xI (d 0) 9 Hh), (h3, xI (d 0) 61 Mk), (h4, xI (d 1) 9 Sk)]) (pl := []) (wc := [(hs, .inr (2, [.ref h1, .ref h2, .ref h3, .ref h4, .ref h5, .int (G 5), .int (G 6), .int (G 7), .int (G 8), .int (G 9), .int (G 10), .int (G 11), .int (G 12), .int (G 13), .int (G 14), .int (G 15), .int (G 16)])), (h1, xI (d 0) 9 Nn), (h2, xI (d 0) 9 Hh), (h3, xI (d 0) 61 Mk), (h4, xI (d 1) 9 Sk)]) (wr := []) C T [0, 1, 2, 3, 4] [] rfl rfl rfl (by decide) rfl (x_rV (As := []) (rest := []) C (x_preq hE T [0, 1, 2, 3, 4] rfl rfl (fun U hU hW => (x_envT (X := [(hs, .inr (2, [.ref h1, .ref h2, .ref h3, .ref h4, .ref h5, .int (G 5), .int (G 6), .int (G 7), .int (G 8), .int (G 9), .int (G 10), .int (G 11), .int (G 12), .int (G 13), .int (G 14), .int (G 15), .int (G 16)])), (h1, xI (d 0) 9 Nn), (h2, xI (d 0) 9 Hh), (h3, xI (d 0) 61 Mk), (h4, xI (d 1) 9 Sk)]) (pl := []) hE C T [0, 1, 2, 3, 4] rfl U hU hW)) _) (mtX4_depth l hE D d hs h1 h2 h3 h4 h5 G Nn Hh Mk Sk H.size _ hw) (cwV 0 hts (lw_V q963 q956 q957 q108 q958) rfl rfl rfl (by decide +kernel) ⟨Nat.le_of_ble_eq_true rfl, Nat.le_of_ble_eq_true rfl⟩) (x_recvA T (ci := 2) rfl (T.at0 0 rfl)) rfl hl.1 (lv_room (Nat.le_of_ble_eq_true rfl)) dX4_heapWay_1 ⟨(Nat.le_of_ble_eq_true rfl), (Nat.le_of_ble_eq_true rfl)⟩) (fun r u H locs hw T => ?_)
  obtain ⟨r_1, rfl⟩ : ∃ z, z = r := ⟨_, rfl⟩
  replace T : xT E D (xTys d) A s H locs ([(hs, .inr (2, [.ref h1, .ref h2, .ref h3, .ref h4, .ref h5, .int (G 5), .int (G 6), .int (G 7), .int (G 8), .int (G 9), .int (G 10), .int (G 11), .int (G 12), .int (G 13), .int (G 14), .int (G 15), .int (G 16)])), (h1, xI (d 0) 9 Nn), (h2, xI (d 0) 9 Hh), (h3, xI (d 0) 61 Mk), (h4, xI (d 1) 9 Sk)]) := T
  refine lv_aload_n hx hb dX4_heapWay_4 rfl (lv_at hl 0 rfl) ?_
  refine x_ki (X := [(hs, .inr (2, [.ref h1, .ref h2, .ref h3, .ref h4, .ref h5, .int (G 5), .int (G 6), .int (G 7), .int (G 8), .int (G 9), .int (G 10), .int (G 11), .int (G 12), .int (G 13), .int (G 14), .int (G 15), .int (G 16)])), (h1, xI (d 0) 9 Nn), (h2, xI (d 0) 9 Hh), (h3, xI (d 0) 61 Mk), (h4, xI (d 1) 9 Sk)]) (pl := []) (wc := [(hs, .inr (2, [.ref h1, .ref h2, .ref h3, .ref h4, .ref h5, .int (G 5), .int (G 6), .int (G 7), .int (G 8), .int (G 9), .int (G 10), .int (G 11), .int (G 12), .int (G 13), .int (G 14), .int (G 15), .int (G 16)])), (h1, xI (d 0) 9 Nn), (h2, xI (d 0) 9 Hh), (h3, xI (d 0) 61 Mk), (h4, xI (d 1) 9 Sk)]) (wr := []) C T [0, 1, 2, 3, 4] [] rfl rfl rfl (by decide) rfl (x_rV (As := []) (rest := [.int r_1]) C (x_preq hE T [0, 1, 2, 3, 4] rfl rfl (fun U hU hW => (x_envT (X := [(hs, .inr (2, [.ref h1, .ref h2, .ref h3, .ref h4, .ref h5, .int (G 5), .int (G 6), .int (G 7), .int (G 8), .int (G 9), .int (G 10), .int (G 11), .int (G 12), .int (G 13), .int (G 14), .int (G 15), .int (G 16)])), (h1, xI (d 0) 9 Nn), (h2, xI (d 0) 9 Hh), (h3, xI (d 0) 61 Mk), (h4, xI (d 1) 9 Sk)]) (pl := []) hE C T [0, 1, 2, 3, 4] rfl U hU hW)) _) (mtX4_heapLevel l hE D d hs h1 h2 h3 h4 h5 G Nn Hh Mk Sk H.size _ hw) (cwV 0 hts (lw_V q1157 q1158 q1159 q108 q1160) rfl rfl rfl (by decide +kernel) ⟨Nat.le_of_ble_eq_true rfl, Nat.le_of_ble_eq_true rfl⟩) (x_recvA T (ci := 2) rfl (T.at0 0 rfl)) rfl hl.1 (lv_room (Nat.le_of_ble_eq_true rfl)) dX4_heapWay_5 ⟨(Nat.le_of_ble_eq_true rfl), (Nat.le_of_ble_eq_true rfl)⟩) (fun r u H locs hw T => ?_)
  obtain ⟨r_2, rfl⟩ : ∃ z, z = r := ⟨_, rfl⟩
  replace T : xT E D (xTys d) A s H locs ([(hs, .inr (2, [.ref h1, .ref h2, .ref h3, .ref h4, .ref h5, .int (G 5), .int (G 6), .int (G 7), .int (G 8), .int (G 9), .int (G 10), .int (G 11), .int (G 12), .int (G 13), .int (G 14), .int (G 15), .int (G 16)])), (h1, xI (d 0) 9 Nn), (h2, xI (d 0) 9 Hh), (h3, xI (d 0) 61 Mk), (h4, xI (d 1) 9 Sk)]) := T
  refine lv_isub hx hb dX4_heapWay_8 ?_
  exact x_iret (u := ()) C T hw (Nat.le_of_ble_eq_true rfl) (Nat.le_of_ble_eq_true rfl) dX4_heapWay_9
def wpX4_loss (post : Int32 → Prop) (G : Nat → Int32) (p1 : Int32) : Prop := (post ((p1 * (G 5)) / 10))
set_option maxHeartbeats 4000000 in
set_option maxRecDepth 100000 in
theorem mtX4_loss (l : Launch) {κ : xK} {E : xEnv} (hE : xStable κ E) (D : va_G) (d : Nat → ClassId) (hs h1 h2 h3 h4 h5 : Nat) (G : Nat → Int32) (Nn : Nat → Int32) (Hh : Nat → Int32) (Mk : Nat → Int32) (Sk : Nat → Int32) (p1 : Int32) (sz : Nat) (post : Int32 → Prop) (hw : wpX4_loss post G p1) : Met l yX4_loss (ws_ yX4_loss cX4_loss 2 (some .int)) ({ frames := 1, cells := 0, slots := 0, locals := 0 } : Room) (xPc E D (xTys d) ([(hs, .inr (2, [.ref h1, .ref h2, .ref h3, .ref h4, .ref h5, .int (G 5), .int (G 6), .int (G 7), .int (G 8), .int (G 9), .int (G 10), .int (G 11), .int (G 12), .int (G 13), .int (G 14), .int (G 15), .int (G 16)])), (h1, xI (d 0) 9 Nn), (h2, xI (d 0) 9 Hh), (h3, xI (d 0) 61 Mk), (h4, xI (d 1) 9 Sk)]) sz [.ref hs, .int p1]) ((fun A : Nat → Prop => va_Qi (fun (r : Int32) (u : Unit) => post r) (xB D (xTys d) A (fun (u : Unit) => [(hs, .inr (2, [.ref h1, .ref h2, .ref h3, .ref h4, .ref h5, .int (G 5), .int (G 6), .int (G 7), .int (G 8), .int (G 9), .int (G 10), .int (G 11), .int (G 12), .int (G 13), .int (G 14), .int (G 15), .int (G 16)])), (h1, xI (d 0) 9 Nn), (h2, xI (d 0) 9 Hh), (h3, xI (d 0) 61 Mk), (h4, xI (d 1) 9 Sk)])) A) (va_A ([(hs, .inr (2, [.ref h1, .ref h2, .ref h3, .ref h4, .ref h5, .int (G 5), .int (G 6), .int (G 7), .int (G 8), .int (G 9), .int (G 10), .int (G 11), .int (G 12), .int (G 13), .int (G 14), .int (G 15), .int (G 16)])), (h1, xI (d 0) 9 Nn), (h2, xI (d 0) 9 Hh), (h3, xI (d 0) 61 Mk), (h4, xI (d 1) 9 Sk)]) sz)) 0 0 (va_A ([(hs, .inr (2, [.ref h1, .ref h2, .ref h3, .ref h4, .ref h5, .int (G 5), .int (G 6), .int (G 7), .int (G 8), .int (G 9), .int (G 10), .int (G 11), .int (G 12), .int (G 13), .int (G 14), .int (G 15), .int (G 16)])), (h1, xI (d 0) 9 Nn), (h2, xI (d 0) 9 Hh), (h3, xI (d 0) 61 Mk), (h4, xI (d 1) 9 Sk)]) sz) := by
  refine x_start (QcA := fun A => va_Qi (fun (r : Int32) (u : Unit) => post r) (xB D (xTys d) A (fun (u : Unit) => [(hs, .inr (2, [.ref h1, .ref h2, .ref h3, .ref h4, .ref h5, .int (G 5), .int (G 6), .int (G 7), .int (G 8), .int (G 9), .int (G 10), .int (G 11), .int (G 12), .int (G 13), .int (G 14), .int (G 15), .int (G 16)])), (h1, xI (d 0) 9 Nn), (h2, xI (d 0) 9 Hh), (h3, xI (d 0) 61 Mk), (h4, xI (d 1) 9 Sk)])) A) hE (by decide) (Nat.le_of_ble_eq_true rfl) ?_
  intro p e s m below meth c A C H locs hsz T ls hl
  obtain ⟨hx, hb, hr, hlk, hml, hown, hts, hA⟩ := id C
  replace hl : lv_has ls 2 [(0, .ref hs), (1, .int p1)] := hl
  unfold wpX4_loss at hw
  refine lv_iload_n hx hb dX4_loss_0 rfl (lv_at hl 1 rfl) ?_
  refine lv_aload_n hx hb dX4_loss_1 rfl (lv_at hl 0 rfl) ?_
  refine x_getA (v := .int (G 5)) (ci := 2) C T (T.at0 0 rfl) rfl 5 (by decide) in_X4 q658 rfl dX4_loss_2 ?_
  refine lv_imul hx hb dX4_loss_5 ?_
  refine lv_bipush (v := 10) hx hb dX4_loss_6 (by decide) ?_
  refine lv_idiv hx hb dX4_loss_8 (by decide) ?_
  exact x_iret (u := ()) C T hw (Nat.le_of_ble_eq_true rfl) (Nat.le_of_ble_eq_true rfl) dX4_loss_9
def wpX4_hears (post : (Nat → Int32) → Prop) (G : Nat → Int32) (Nn : Nat → Int32) (p1 : Int32) : Prop := (((G 6) = (-1) → (∀ G_2 : Nat → Int32, G_2 = upd G 6 p1 → (∀ G_3 : Nat → Int32, G_3 = upd G_2 7 0 → (post G_3)))) ∧ (¬ (G 6) = (-1) → (((Nn 7) < (if 0 ≤ (p1 - (G 6)) then (p1 - (G 6)) else 0 - (p1 - (G 6))) → (∀ f_5 : Int32, f_5 = (G 7) + 1 → (∀ G_6 : Nat → Int32, G_6 = upd G 7 f_5 → (∀ f_7 : Int32, f_7 = (G_6 16) + 1 → (∀ G_8 : Nat → Int32, G_8 = upd G_6 16 f_7 → (((Nn 8) ≤ (G_8 7) → (∀ G_10 : Nat → Int32, G_10 = upd G_8 6 p1 → (∀ G_11 : Nat → Int32, G_11 = upd G_10 7 0 → (post G_11)))) ∧ (¬ (Nn 8) ≤ (G_8 7) → (post G_8)))))))) ∧ (¬ (Nn 7) < (if 0 ≤ (p1 - (G 6)) then (p1 - (G 6)) else 0 - (p1 - (G 6))) → (∀ G_12 : Nat → Int32, G_12 = upd G 6 p1 → (∀ G_13 : Nat → Int32, G_13 = upd G_12 7 0 → (post G_13)))))))
set_option maxHeartbeats 4000000 in
set_option maxRecDepth 100000 in
theorem mtX4_hears (l : Launch) {κ : xK} {E : xEnv} (hE : xStable κ E) (D : va_G) (d : Nat → ClassId) (hs h1 h2 h3 h4 h5 : Nat) (G : Nat → Int32) (Nn : Nat → Int32) (Hh : Nat → Int32) (Mk : Nat → Int32) (Sk : Nat → Int32) (p1 : Int32) (sz : Nat) (post : (Nat → Int32) → Prop) (hw : wpX4_hears post G Nn p1) : Met l yX4_hears (ws_ yX4_hears cX4_hears 2 none) ({ frames := 1, cells := 0, slots := 0, locals := 26 } : Room) (xPc E D (xTys d) ([(hs, .inr (2, [.ref h1, .ref h2, .ref h3, .ref h4, .ref h5, .int (G 5), .int (G 6), .int (G 7), .int (G 8), .int (G 9), .int (G 10), .int (G 11), .int (G 12), .int (G 13), .int (G 14), .int (G 15), .int (G 16)])), (h1, xI (d 0) 9 Nn), (h2, xI (d 0) 9 Hh), (h3, xI (d 0) 61 Mk), (h4, xI (d 1) 9 Sk)]) sz [.ref hs, .int p1]) ((fun A : Nat → Prop => va_Qv (fun (u : (Nat → Int32)) => post u) (xB D (xTys d) A (fun (u : (Nat → Int32)) => [(hs, .inr (2, [.ref h1, .ref h2, .ref h3, .ref h4, .ref h5, .int (u 5), .int (u 6), .int (u 7), .int (u 8), .int (u 9), .int (u 10), .int (u 11), .int (u 12), .int (u 13), .int (u 14), .int (u 15), .int (u 16)])), (h1, xI (d 0) 9 Nn), (h2, xI (d 0) 9 Hh), (h3, xI (d 0) 61 Mk), (h4, xI (d 1) 9 Sk)])) A) (va_A ([(hs, .inr (2, [.ref h1, .ref h2, .ref h3, .ref h4, .ref h5, .int (G 5), .int (G 6), .int (G 7), .int (G 8), .int (G 9), .int (G 10), .int (G 11), .int (G 12), .int (G 13), .int (G 14), .int (G 15), .int (G 16)])), (h1, xI (d 0) 9 Nn), (h2, xI (d 0) 9 Hh), (h3, xI (d 0) 61 Mk), (h4, xI (d 1) 9 Sk)]) sz)) 0 0 (va_A ([(hs, .inr (2, [.ref h1, .ref h2, .ref h3, .ref h4, .ref h5, .int (G 5), .int (G 6), .int (G 7), .int (G 8), .int (G 9), .int (G 10), .int (G 11), .int (G 12), .int (G 13), .int (G 14), .int (G 15), .int (G 16)])), (h1, xI (d 0) 9 Nn), (h2, xI (d 0) 9 Hh), (h3, xI (d 0) 61 Mk), (h4, xI (d 1) 9 Sk)]) sz) := by
  refine x_start (QcA := fun A => va_Qv (fun (u : (Nat → Int32)) => post u) (xB D (xTys d) A (fun (u : (Nat → Int32)) => [(hs, .inr (2, [.ref h1, .ref h2, .ref h3, .ref h4, .ref h5, .int (u 5), .int (u 6), .int (u 7), .int (u 8), .int (u 9), .int (u 10), .int (u 11), .int (u 12), .int (u 13), .int (u 14), .int (u 15), .int (u 16)])), (h1, xI (d 0) 9 Nn), (h2, xI (d 0) 9 Hh), (h3, xI (d 0) 61 Mk), (h4, xI (d 1) 9 Sk)])) A) hE (by decide) (Nat.le_of_ble_eq_true rfl) ?_
  intro p e s m below meth c A C H locs hsz T ls hl
  obtain ⟨hx, hb, hr, hlk, hml, hown, hts, hA⟩ := id C
  replace hl : lv_has ls 2 [(0, .ref hs), (1, .int p1)] := hl
  unfold wpX4_hears at hw
  refine lv_aload_n hx hb dX4_hears_0 rfl (lv_at hl 0 rfl) ?_
  refine x_getA (v := .int (G 6)) (ci := 2) C T (T.at0 0 rfl) rfl 6 (by decide) in_X4 q661 rfl dX4_hears_1 ?_
  refine lv_iconst (v := (-1)) hx hb dX4_hears_4 (by decide) ?_
  refine lv_icmp_eq (tgt := 27) hx hb dX4_hears_5 (by decide) (fun c_1 => ?_) (fun c_1 => ?_)
  · replace hw := hw.1 c_1
    refine lv_aload_n hx hb dX4_hears_27 rfl (lv_at hl 0 rfl) ?_
    refine lv_iload_n hx hb dX4_hears_28 rfl (lv_at hl 1 rfl) ?_
    refine x_put (v := .int p1) (ty := .int) C T tyX4 tyX4_ok nmX4 0 rfl rfl 6 (by decide) in_X4 q661 rfl (by decide +kernel) rfl rfl (Nat.le_of_ble_eq_true rfl) dX4_hears_29 (fun H locs T => ?_)
    obtain ⟨G_2, eG_2⟩ : ∃ z : Nat → Int32, z = upd G 6 p1 := ⟨_, rfl⟩
    replace T : xT E D (xTys d) A s H locs ([(hs, .inr (2, [.ref h1, .ref h2, .ref h3, .ref h4, .ref h5, .int (G_2 5), .int (G_2 6), .int (G_2 7), .int (G_2 8), .int (G_2 9), .int (G_2 10), .int (G_2 11), .int (G_2 12), .int (G_2 13), .int (G_2 14), .int (G_2 15), .int (G_2 16)])), (h1, xI (d 0) 9 Nn), (h2, xI (d 0) 9 Hh), (h3, xI (d 0) 61 Mk), (h4, xI (d 1) 9 Sk)]) := by rw [eG_2]; exact T
    replace hw := hw G_2 eG_2
    refine lv_aload_n hx hb dX4_hears_32 rfl (lv_at hl 0 rfl) ?_
    refine lv_iconst (v := 0) hx hb dX4_hears_33 (by decide) ?_
    refine x_put (v := .int 0) (ty := .int) C T tyX4 tyX4_ok nmX4 0 rfl rfl 7 (by decide) in_X4 q663 rfl (by decide +kernel) rfl rfl (Nat.le_of_ble_eq_true rfl) dX4_hears_34 (fun H locs T => ?_)
    obtain ⟨G_3, eG_3⟩ : ∃ z : Nat → Int32, z = upd G_2 7 0 := ⟨_, rfl⟩
    replace T : xT E D (xTys d) A s H locs ([(hs, .inr (2, [.ref h1, .ref h2, .ref h3, .ref h4, .ref h5, .int (G_3 5), .int (G_3 6), .int (G_3 7), .int (G_3 8), .int (G_3 9), .int (G_3 10), .int (G_3 11), .int (G_3 12), .int (G_3 13), .int (G_3 14), .int (G_3 15), .int (G_3 16)])), (h1, xI (d 0) 9 Nn), (h2, xI (d 0) 9 Hh), (h3, xI (d 0) 61 Mk), (h4, xI (d 1) 9 Sk)]) := by rw [eG_3]; exact T
    replace hw := hw G_3 eG_3
    exact x_vret (u := (G_3)) C T hw (Nat.le_of_ble_eq_true rfl) (Nat.le_of_ble_eq_true rfl) dX4_hears_37
  · replace hw := hw.2 c_1
    refine lv_iload_n hx hb dX4_hears_8 rfl (lv_at hl 1 rfl) ?_
    refine lv_aload_n hx hb dX4_hears_9 rfl (lv_at hl 0 rfl) ?_
    refine x_getA (v := .int (G 6)) (ci := 2) C T (T.at0 0 rfl) rfl 6 (by decide) in_X4 q661 rfl dX4_hears_10 ?_
    refine lv_isub hx hb dX4_hears_13 ?_
    refine va_mabs hx hb (hml.trans hl.1.symm) hown (hts _ q1269) (hts _ q1270) (hts _ q116) (hts _ q1271) (Nat.le_of_ble_eq_true rfl) (Nat.le_of_ble_eq_true rfl) (Nat.le_of_ble_eq_true rfl) (Nat.le_of_ble_eq_true rfl) dX4_hears_14 ?_
    refine lv_aload_n hx hb dX4_hears_17 rfl (lv_at hl 0 rfl) ?_
    refine x_getA (v := .ref h1) (ci := 2) C T (T.at0 0 rfl) rfl 0 (by decide) in_X4 q644 rfl dX4_hears_18 ?_
    refine lv_bipush (v := 7) hx hb dX4_hears_21 (by decide) ?_
    refine x_ialdE (j := 7) C T 0 (T.at0 1 rfl) rfl (x_in (by decide)) (by decide) dX4_hears_23 ?_
    refine lv_icmp_gt (tgt := 38) hx hb dX4_hears_24 (by decide) (fun c_4 => ?_) (fun c_4 => ?_)
    · replace hw := hw.1 c_4
      refine lv_aload_n hx hb dX4_hears_38 rfl (lv_at hl 0 rfl) ?_
      refine lv_dup hx hb dX4_hears_39 rfl ?_
      refine x_getA (v := .int (G 7)) (ci := 2) C T (T.at0 0 rfl) rfl 7 (by decide) in_X4 q663 rfl dX4_hears_40 ?_
      refine lv_iconst (v := 1) hx hb dX4_hears_43 (by decide) ?_
      refine lv_iadd hx hb dX4_hears_44 ?_
      refine lv_topi (fun f_5 ef_5 => ?_)
      replace hw := hw f_5 ef_5
      refine x_put (v := .int f_5) (ty := .int) C T tyX4 tyX4_ok nmX4 0 rfl rfl 7 (by decide) in_X4 q663 rfl (by decide +kernel) rfl rfl (Nat.le_of_ble_eq_true rfl) dX4_hears_45 (fun H locs T => ?_)
      obtain ⟨G_6, eG_6⟩ : ∃ z : Nat → Int32, z = upd G 7 f_5 := ⟨_, rfl⟩
      replace T : xT E D (xTys d) A s H locs ([(hs, .inr (2, [.ref h1, .ref h2, .ref h3, .ref h4, .ref h5, .int (G_6 5), .int (G_6 6), .int (G_6 7), .int (G_6 8), .int (G_6 9), .int (G_6 10), .int (G_6 11), .int (G_6 12), .int (G_6 13), .int (G_6 14), .int (G_6 15), .int (G_6 16)])), (h1, xI (d 0) 9 Nn), (h2, xI (d 0) 9 Hh), (h3, xI (d 0) 61 Mk), (h4, xI (d 1) 9 Sk)]) := by rw [eG_6]; exact T
      replace hw := hw G_6 eG_6
      refine lv_aload_n hx hb dX4_hears_48 rfl (lv_at hl 0 rfl) ?_
      refine lv_dup hx hb dX4_hears_49 rfl ?_
      refine x_getA (v := .int (G_6 16)) (ci := 2) C T (T.at0 0 rfl) rfl 16 (by decide) in_X4 q681 rfl dX4_hears_50 ?_
      refine lv_iconst (v := 1) hx hb dX4_hears_53 (by decide) ?_
      refine lv_iadd hx hb dX4_hears_54 ?_
      refine lv_topi (fun f_7 ef_7 => ?_)
      replace hw := hw f_7 ef_7
      refine x_put (v := .int f_7) (ty := .int) C T tyX4 tyX4_ok nmX4 0 rfl rfl 16 (by decide) in_X4 q681 rfl (by decide +kernel) rfl rfl (Nat.le_of_ble_eq_true rfl) dX4_hears_55 (fun H locs T => ?_)
      obtain ⟨G_8, eG_8⟩ : ∃ z : Nat → Int32, z = upd G_6 16 f_7 := ⟨_, rfl⟩
      replace T : xT E D (xTys d) A s H locs ([(hs, .inr (2, [.ref h1, .ref h2, .ref h3, .ref h4, .ref h5, .int (G_8 5), .int (G_8 6), .int (G_8 7), .int (G_8 8), .int (G_8 9), .int (G_8 10), .int (G_8 11), .int (G_8 12), .int (G_8 13), .int (G_8 14), .int (G_8 15), .int (G_8 16)])), (h1, xI (d 0) 9 Nn), (h2, xI (d 0) 9 Hh), (h3, xI (d 0) 61 Mk), (h4, xI (d 1) 9 Sk)]) := by rw [eG_8]; exact T
      replace hw := hw G_8 eG_8
      refine lv_aload_n hx hb dX4_hears_58 rfl (lv_at hl 0 rfl) ?_
      refine x_getA (v := .int (G_8 7)) (ci := 2) C T (T.at0 0 rfl) rfl 7 (by decide) in_X4 q663 rfl dX4_hears_59 ?_
      refine lv_aload_n hx hb dX4_hears_62 rfl (lv_at hl 0 rfl) ?_
      refine x_getA (v := .ref h1) (ci := 2) C T (T.at0 0 rfl) rfl 0 (by decide) in_X4 q644 rfl dX4_hears_63 ?_
      refine lv_bipush (v := 8) hx hb dX4_hears_66 (by decide) ?_
      refine x_ialdE (j := 8) C T 0 (T.at0 1 rfl) rfl (x_in (by decide)) (by decide) dX4_hears_68 ?_
      refine lv_icmp_ge (tgt := 73) hx hb dX4_hears_69 (by decide) (fun c_9 => ?_) (fun c_9 => ?_)
      · replace hw := hw.1 c_9
        refine lv_aload_n hx hb dX4_hears_73 rfl (lv_at hl 0 rfl) ?_
        refine lv_iload_n hx hb dX4_hears_74 rfl (lv_at hl 1 rfl) ?_
        refine x_put (v := .int p1) (ty := .int) C T tyX4 tyX4_ok nmX4 0 rfl rfl 6 (by decide) in_X4 q661 rfl (by decide +kernel) rfl rfl (Nat.le_of_ble_eq_true rfl) dX4_hears_75 (fun H locs T => ?_)
        obtain ⟨G_10, eG_10⟩ : ∃ z : Nat → Int32, z = upd G_8 6 p1 := ⟨_, rfl⟩
        replace T : xT E D (xTys d) A s H locs ([(hs, .inr (2, [.ref h1, .ref h2, .ref h3, .ref h4, .ref h5, .int (G_10 5), .int (G_10 6), .int (G_10 7), .int (G_10 8), .int (G_10 9), .int (G_10 10), .int (G_10 11), .int (G_10 12), .int (G_10 13), .int (G_10 14), .int (G_10 15), .int (G_10 16)])), (h1, xI (d 0) 9 Nn), (h2, xI (d 0) 9 Hh), (h3, xI (d 0) 61 Mk), (h4, xI (d 1) 9 Sk)]) := by rw [eG_10]; exact T
        replace hw := hw G_10 eG_10
        refine lv_aload_n hx hb dX4_hears_78 rfl (lv_at hl 0 rfl) ?_
        refine lv_iconst (v := 0) hx hb dX4_hears_79 (by decide) ?_
        refine x_put (v := .int 0) (ty := .int) C T tyX4 tyX4_ok nmX4 0 rfl rfl 7 (by decide) in_X4 q663 rfl (by decide +kernel) rfl rfl (Nat.le_of_ble_eq_true rfl) dX4_hears_80 (fun H locs T => ?_)
        obtain ⟨G_11, eG_11⟩ : ∃ z : Nat → Int32, z = upd G_10 7 0 := ⟨_, rfl⟩
        replace T : xT E D (xTys d) A s H locs ([(hs, .inr (2, [.ref h1, .ref h2, .ref h3, .ref h4, .ref h5, .int (G_11 5), .int (G_11 6), .int (G_11 7), .int (G_11 8), .int (G_11 9), .int (G_11 10), .int (G_11 11), .int (G_11 12), .int (G_11 13), .int (G_11 14), .int (G_11 15), .int (G_11 16)])), (h1, xI (d 0) 9 Nn), (h2, xI (d 0) 9 Hh), (h3, xI (d 0) 61 Mk), (h4, xI (d 1) 9 Sk)]) := by rw [eG_11]; exact T
        replace hw := hw G_11 eG_11
        exact x_vret (u := (G_11)) C T hw (Nat.le_of_ble_eq_true rfl) (Nat.le_of_ble_eq_true rfl) dX4_hears_83
      · replace hw := hw.2 c_9
        exact x_vret (u := (G_8)) C T hw (Nat.le_of_ble_eq_true rfl) (Nat.le_of_ble_eq_true rfl) dX4_hears_72
    · replace hw := hw.2 c_4
      refine lv_aload_n hx hb dX4_hears_27 rfl (lv_at hl 0 rfl) ?_
      refine lv_iload_n hx hb dX4_hears_28 rfl (lv_at hl 1 rfl) ?_
      refine x_put (v := .int p1) (ty := .int) C T tyX4 tyX4_ok nmX4 0 rfl rfl 6 (by decide) in_X4 q661 rfl (by decide +kernel) rfl rfl (Nat.le_of_ble_eq_true rfl) dX4_hears_29 (fun H locs T => ?_)
      obtain ⟨G_12, eG_12⟩ : ∃ z : Nat → Int32, z = upd G 6 p1 := ⟨_, rfl⟩
      replace T : xT E D (xTys d) A s H locs ([(hs, .inr (2, [.ref h1, .ref h2, .ref h3, .ref h4, .ref h5, .int (G_12 5), .int (G_12 6), .int (G_12 7), .int (G_12 8), .int (G_12 9), .int (G_12 10), .int (G_12 11), .int (G_12 12), .int (G_12 13), .int (G_12 14), .int (G_12 15), .int (G_12 16)])), (h1, xI (d 0) 9 Nn), (h2, xI (d 0) 9 Hh), (h3, xI (d 0) 61 Mk), (h4, xI (d 1) 9 Sk)]) := by rw [eG_12]; exact T
      replace hw := hw G_12 eG_12
      refine lv_aload_n hx hb dX4_hears_32 rfl (lv_at hl 0 rfl) ?_
      refine lv_iconst (v := 0) hx hb dX4_hears_33 (by decide) ?_
      refine x_put (v := .int 0) (ty := .int) C T tyX4 tyX4_ok nmX4 0 rfl rfl 7 (by decide) in_X4 q663 rfl (by decide +kernel) rfl rfl (Nat.le_of_ble_eq_true rfl) dX4_hears_34 (fun H locs T => ?_)
      obtain ⟨G_13, eG_13⟩ : ∃ z : Nat → Int32, z = upd G_12 7 0 := ⟨_, rfl⟩
      replace T : xT E D (xTys d) A s H locs ([(hs, .inr (2, [.ref h1, .ref h2, .ref h3, .ref h4, .ref h5, .int (G_13 5), .int (G_13 6), .int (G_13 7), .int (G_13 8), .int (G_13 9), .int (G_13 10), .int (G_13 11), .int (G_13 12), .int (G_13 13), .int (G_13 14), .int (G_13 15), .int (G_13 16)])), (h1, xI (d 0) 9 Nn), (h2, xI (d 0) 9 Hh), (h3, xI (d 0) 61 Mk), (h4, xI (d 1) 9 Sk)]) := by rw [eG_13]; exact T
      replace hw := hw G_13 eG_13
      exact x_vret (u := (G_13)) C T hw (Nat.le_of_ble_eq_true rfl) (Nat.le_of_ble_eq_true rfl) dX4_hears_37
def wpX4_turnsStuck (post : Int32 → (Nat → Int32) → (Nat → Int32) → (Nat → Int32) → Prop) (G : Nat → Int32) (Nn : Nat → Int32) (Hh : Nat → Int32) (Mk : Nat → Int32) (Sk : Nat → Int32) (p1 : Int32) : Prop := (vp_in p1 9 ∧ (((Sk p1.toNatClampNeg) = 0 → (vp_in p1 9 ∧ (∀ Sk_7 : Nat → Int32, Sk_7 = upd Sk p1.toNatClampNeg 1 → (vp_in p1 9 ∧ (((Sk_7 p1.toNatClampNeg) = 0 → (wpX4_slides (fun r_9 Hh_10 G_11 => (post r_9 Hh_10 Sk_7 G_11)) G Nn Hh Mk Sk_7)) ∧ (¬ (Sk_7 p1.toNatClampNeg) = 0 → (post 0 Hh Sk_7 G))))))) ∧ (¬ (Sk p1.toNatClampNeg) = 0 → (vp_in p1 9 ∧ (∀ Sk_2 : Nat → Int32, Sk_2 = upd Sk p1.toNatClampNeg 0 → (vp_in p1 9 ∧ (((Sk_2 p1.toNatClampNeg) = 0 → (wpX4_slides (fun r_4 Hh_5 G_6 => (post r_4 Hh_5 Sk_2 G_6)) G Nn Hh Mk Sk_2)) ∧ (¬ (Sk_2 p1.toNatClampNeg) = 0 → (post 0 Hh Sk_2 G)))))))))
set_option maxHeartbeats 4000000 in
set_option maxRecDepth 100000 in
theorem mtX4_turnsStuck (l : Launch) {κ : xK} {E : xEnv} (hE : xStable κ E) (D : va_G) (d : Nat → ClassId) (hs h1 h2 h3 h4 h5 : Nat) (G : Nat → Int32) (Nn : Nat → Int32) (Hh : Nat → Int32) (Mk : Nat → Int32) (Sk : Nat → Int32) (p1 : Int32) (sz : Nat) (post : Int32 → (Nat → Int32) → (Nat → Int32) → (Nat → Int32) → Prop) (hw : wpX4_turnsStuck post G Nn Hh Mk Sk p1) : Met l yX4_turnsStuck (ws_ yX4_turnsStuck cX4_turnsStuck 2 (some .int)) ({ frames := 6, cells := 0, slots := 0, locals := 107 } : Room) (xPc E D (xTys d) ([(hs, .inr (2, [.ref h1, .ref h2, .ref h3, .ref h4, .ref h5, .int (G 5), .int (G 6), .int (G 7), .int (G 8), .int (G 9), .int (G 10), .int (G 11), .int (G 12), .int (G 13), .int (G 14), .int (G 15), .int (G 16)])), (h1, xI (d 0) 9 Nn), (h2, xI (d 0) 9 Hh), (h3, xI (d 0) 61 Mk), (h4, xI (d 1) 9 Sk)]) sz [.ref hs, .int p1]) ((fun A : Nat → Prop => va_Qi (fun (r : Int32) (u : (Nat → Int32) × (Nat → Int32) × (Nat → Int32)) => post r u.1 u.2.1 u.2.2) (xB D (xTys d) A (fun (u : (Nat → Int32) × (Nat → Int32) × (Nat → Int32)) => [(hs, .inr (2, [.ref h1, .ref h2, .ref h3, .ref h4, .ref h5, .int (u.2.2 5), .int (u.2.2 6), .int (u.2.2 7), .int (u.2.2 8), .int (u.2.2 9), .int (u.2.2 10), .int (u.2.2 11), .int (u.2.2 12), .int (u.2.2 13), .int (u.2.2 14), .int (u.2.2 15), .int (u.2.2 16)])), (h1, xI (d 0) 9 Nn), (h2, xI (d 0) 9 u.1), (h3, xI (d 0) 61 Mk), (h4, xI (d 1) 9 u.2.1)])) A) (va_A ([(hs, .inr (2, [.ref h1, .ref h2, .ref h3, .ref h4, .ref h5, .int (G 5), .int (G 6), .int (G 7), .int (G 8), .int (G 9), .int (G 10), .int (G 11), .int (G 12), .int (G 13), .int (G 14), .int (G 15), .int (G 16)])), (h1, xI (d 0) 9 Nn), (h2, xI (d 0) 9 Hh), (h3, xI (d 0) 61 Mk), (h4, xI (d 1) 9 Sk)]) sz)) 0 0 (va_A ([(hs, .inr (2, [.ref h1, .ref h2, .ref h3, .ref h4, .ref h5, .int (G 5), .int (G 6), .int (G 7), .int (G 8), .int (G 9), .int (G 10), .int (G 11), .int (G 12), .int (G 13), .int (G 14), .int (G 15), .int (G 16)])), (h1, xI (d 0) 9 Nn), (h2, xI (d 0) 9 Hh), (h3, xI (d 0) 61 Mk), (h4, xI (d 1) 9 Sk)]) sz) := by
  refine x_start (QcA := fun A => va_Qi (fun (r : Int32) (u : (Nat → Int32) × (Nat → Int32) × (Nat → Int32)) => post r u.1 u.2.1 u.2.2) (xB D (xTys d) A (fun (u : (Nat → Int32) × (Nat → Int32) × (Nat → Int32)) => [(hs, .inr (2, [.ref h1, .ref h2, .ref h3, .ref h4, .ref h5, .int (u.2.2 5), .int (u.2.2 6), .int (u.2.2 7), .int (u.2.2 8), .int (u.2.2 9), .int (u.2.2 10), .int (u.2.2 11), .int (u.2.2 12), .int (u.2.2 13), .int (u.2.2 14), .int (u.2.2 15), .int (u.2.2 16)])), (h1, xI (d 0) 9 Nn), (h2, xI (d 0) 9 u.1), (h3, xI (d 0) 61 Mk), (h4, xI (d 1) 9 u.2.1)])) A) hE (by decide) (Nat.le_of_ble_eq_true rfl) ?_
  intro p e s m below meth c A C H locs hsz T ls hl
  obtain ⟨hx, hb, hr, hlk, hml, hown, hts, hA⟩ := id C
  replace hl : lv_has ls 2 [(0, .ref hs), (1, .int p1)] := hl
  unfold wpX4_turnsStuck at hw
  refine lv_aload_n hx hb dX4_turnsStuck_0 rfl (lv_at hl 0 rfl) ?_
  refine x_getA (v := .ref h4) (ci := 2) C T (T.at0 0 rfl) rfl 3 (by decide) in_X4 q652 rfl dX4_turnsStuck_1 ?_
  refine lv_iload_n hx hb dX4_turnsStuck_4 rfl (lv_at hl 1 rfl) ?_
  refine lv_aload_n hx hb dX4_turnsStuck_5 rfl (lv_at hl 0 rfl) ?_
  refine x_getA (v := .ref h4) (ci := 2) C T (T.at0 0 rfl) rfl 3 (by decide) in_X4 q652 rfl dX4_turnsStuck_6 ?_
  refine lv_iload_n hx hb dX4_turnsStuck_9 rfl (lv_at hl 1 rfl) ?_
  refine x_zaldE C T 1 (T.at0 4 rfl) rfl hw.1 rfl dX4_turnsStuck_10 ?_
  replace hw := hw.2
  refine lv_if_ne (tgt := 18) hx hb dX4_turnsStuck_11 (by decide) (fun c_1 => ?_) (fun c_1 => ?_)
  · replace hw := hw.2 c_1
    refine lv_iconst (v := 0) hx hb dX4_turnsStuck_18 (by decide) ?_
    refine x_zast C T 4 1 rfl rfl hw.1 rfl rfl dX4_turnsStuck_19 (fun H locs T => ?_)
    replace hw := hw.2
    obtain ⟨Sk_2, eSk_2⟩ : ∃ z : Nat → Int32, z = upd Sk p1.toNatClampNeg 0 := ⟨_, rfl⟩
    replace T : xT E D (xTys d) A s H locs ([(hs, .inr (2, [.ref h1, .ref h2, .ref h3, .ref h4, .ref h5, .int (G 5), .int (G 6), .int (G 7), .int (G 8), .int (G 9), .int (G 10), .int (G 11), .int (G 12), .int (G 13), .int (G 14), .int (G 15), .int (G 16)])), (h1, xI (d 0) 9 Nn), (h2, xI (d 0) 9 Hh), (h3, xI (d 0) 61 Mk), (h4, xI (d 1) 9 Sk_2)]) := by rw [eSk_2]; exact T
    replace hw := hw Sk_2 eSk_2
    refine lv_aload_n hx hb dX4_turnsStuck_20 rfl (lv_at hl 0 rfl) ?_
    refine x_getA (v := .ref h4) (ci := 2) C T (T.at0 0 rfl) rfl 3 (by decide) in_X4 q652 rfl dX4_turnsStuck_21 ?_
    refine lv_iload_n hx hb dX4_turnsStuck_24 rfl (lv_at hl 1 rfl) ?_
    refine x_zaldE C T 1 (T.at0 4 rfl) rfl hw.1 rfl dX4_turnsStuck_25 ?_
    replace hw := hw.2
    refine lv_if_eq (tgt := 33) hx hb dX4_turnsStuck_26 (by decide) (fun c_3 => ?_) (fun c_3 => ?_)
    · replace hw := hw.1 c_3
      refine lv_aload_n hx hb dX4_turnsStuck_33 rfl (lv_at hl 0 rfl) ?_
      refine x_ki (X := [(hs, .inr (2, [.ref h1, .ref h2, .ref h3, .ref h4, .ref h5, .int (G 5), .int (G 6), .int (G 7), .int (G 8), .int (G 9), .int (G 10), .int (G 11), .int (G 12), .int (G 13), .int (G 14), .int (G 15), .int (G 16)])), (h1, xI (d 0) 9 Nn), (h2, xI (d 0) 9 Hh), (h3, xI (d 0) 61 Mk), (h4, xI (d 1) 9 Sk_2)]) (pl := []) (wc := [(hs, .inr (2, [.ref h1, .ref h2, .ref h3, .ref h4, .ref h5, .int (G 5), .int (G 6), .int (G 7), .int (G 8), .int (G 9), .int (G 10), .int (G 11), .int (G 12), .int (G 13), .int (G 14), .int (G 15), .int (G 16)])), (h1, xI (d 0) 9 Nn), (h2, xI (d 0) 9 Hh), (h3, xI (d 0) 61 Mk), (h4, xI (d 1) 9 Sk_2)]) (wr := []) C T [0, 1, 2, 3, 4] [] rfl rfl rfl (by decide) rfl (x_rV (As := []) (rest := []) C (x_preq hE T [0, 1, 2, 3, 4] rfl rfl (fun U hU hW => (x_envT (X := [(hs, .inr (2, [.ref h1, .ref h2, .ref h3, .ref h4, .ref h5, .int (G 5), .int (G 6), .int (G 7), .int (G 8), .int (G 9), .int (G 10), .int (G 11), .int (G 12), .int (G 13), .int (G 14), .int (G 15), .int (G 16)])), (h1, xI (d 0) 9 Nn), (h2, xI (d 0) 9 Hh), (h3, xI (d 0) 61 Mk), (h4, xI (d 1) 9 Sk_2)]) (pl := []) hE C T [0, 1, 2, 3, 4] rfl U hU hW)) _) (mtX4_slides l hE D d hs h1 h2 h3 h4 h5 G Nn Hh Mk Sk_2 H.size _ hw) (cwV 0 hts (lw_V q965 q966 q967 q108 q968) rfl rfl rfl (by decide +kernel) ⟨Nat.le_of_ble_eq_true rfl, Nat.le_of_ble_eq_true rfl⟩) (x_recvA T (ci := 2) rfl (T.at0 0 rfl)) rfl hl.1 (lv_room (Nat.le_of_ble_eq_true rfl)) dX4_turnsStuck_34 ⟨(Nat.le_of_ble_eq_true rfl), (Nat.le_of_ble_eq_true rfl)⟩) (fun r u H locs hw T => ?_)
      obtain ⟨r_4, rfl⟩ : ∃ z, z = r := ⟨_, rfl⟩
      obtain ⟨Hh_5, G_6⟩ := u
      replace T : xT E D (xTys d) A s H locs ([(hs, .inr (2, [.ref h1, .ref h2, .ref h3, .ref h4, .ref h5, .int (G_6 5), .int (G_6 6), .int (G_6 7), .int (G_6 8), .int (G_6 9), .int (G_6 10), .int (G_6 11), .int (G_6 12), .int (G_6 13), .int (G_6 14), .int (G_6 15), .int (G_6 16)])), (h1, xI (d 0) 9 Nn), (h2, xI (d 0) 9 Hh_5), (h3, xI (d 0) 61 Mk), (h4, xI (d 1) 9 Sk_2)]) := T
      exact x_iret (u := (Hh_5, Sk_2, G_6)) C T hw (Nat.le_of_ble_eq_true rfl) (Nat.le_of_ble_eq_true rfl) dX4_turnsStuck_37
    · replace hw := hw.2 c_3
      refine lv_iconst (v := 0) hx hb dX4_turnsStuck_29 (by decide) ?_
      refine lv_goto (tgt := 37) hx hb dX4_turnsStuck_30 (by decide) ?_
      exact x_iret (u := (Hh, Sk_2, G)) C T hw (Nat.le_of_ble_eq_true rfl) (Nat.le_of_ble_eq_true rfl) dX4_turnsStuck_37
  · replace hw := hw.1 c_1
    refine lv_iconst (v := 1) hx hb dX4_turnsStuck_14 (by decide) ?_
    refine lv_goto (tgt := 19) hx hb dX4_turnsStuck_15 (by decide) ?_
    refine x_zast C T 4 1 rfl rfl hw.1 rfl rfl dX4_turnsStuck_19 (fun H locs T => ?_)
    replace hw := hw.2
    obtain ⟨Sk_7, eSk_7⟩ : ∃ z : Nat → Int32, z = upd Sk p1.toNatClampNeg 1 := ⟨_, rfl⟩
    replace T : xT E D (xTys d) A s H locs ([(hs, .inr (2, [.ref h1, .ref h2, .ref h3, .ref h4, .ref h5, .int (G 5), .int (G 6), .int (G 7), .int (G 8), .int (G 9), .int (G 10), .int (G 11), .int (G 12), .int (G 13), .int (G 14), .int (G 15), .int (G 16)])), (h1, xI (d 0) 9 Nn), (h2, xI (d 0) 9 Hh), (h3, xI (d 0) 61 Mk), (h4, xI (d 1) 9 Sk_7)]) := by rw [eSk_7]; exact T
    replace hw := hw Sk_7 eSk_7
    refine lv_aload_n hx hb dX4_turnsStuck_20 rfl (lv_at hl 0 rfl) ?_
    refine x_getA (v := .ref h4) (ci := 2) C T (T.at0 0 rfl) rfl 3 (by decide) in_X4 q652 rfl dX4_turnsStuck_21 ?_
    refine lv_iload_n hx hb dX4_turnsStuck_24 rfl (lv_at hl 1 rfl) ?_
    refine x_zaldE C T 1 (T.at0 4 rfl) rfl hw.1 rfl dX4_turnsStuck_25 ?_
    replace hw := hw.2
    refine lv_if_eq (tgt := 33) hx hb dX4_turnsStuck_26 (by decide) (fun c_8 => ?_) (fun c_8 => ?_)
    · replace hw := hw.1 c_8
      refine lv_aload_n hx hb dX4_turnsStuck_33 rfl (lv_at hl 0 rfl) ?_
      refine x_ki (X := [(hs, .inr (2, [.ref h1, .ref h2, .ref h3, .ref h4, .ref h5, .int (G 5), .int (G 6), .int (G 7), .int (G 8), .int (G 9), .int (G 10), .int (G 11), .int (G 12), .int (G 13), .int (G 14), .int (G 15), .int (G 16)])), (h1, xI (d 0) 9 Nn), (h2, xI (d 0) 9 Hh), (h3, xI (d 0) 61 Mk), (h4, xI (d 1) 9 Sk_7)]) (pl := []) (wc := [(hs, .inr (2, [.ref h1, .ref h2, .ref h3, .ref h4, .ref h5, .int (G 5), .int (G 6), .int (G 7), .int (G 8), .int (G 9), .int (G 10), .int (G 11), .int (G 12), .int (G 13), .int (G 14), .int (G 15), .int (G 16)])), (h1, xI (d 0) 9 Nn), (h2, xI (d 0) 9 Hh), (h3, xI (d 0) 61 Mk), (h4, xI (d 1) 9 Sk_7)]) (wr := []) C T [0, 1, 2, 3, 4] [] rfl rfl rfl (by decide) rfl (x_rV (As := []) (rest := []) C (x_preq hE T [0, 1, 2, 3, 4] rfl rfl (fun U hU hW => (x_envT (X := [(hs, .inr (2, [.ref h1, .ref h2, .ref h3, .ref h4, .ref h5, .int (G 5), .int (G 6), .int (G 7), .int (G 8), .int (G 9), .int (G 10), .int (G 11), .int (G 12), .int (G 13), .int (G 14), .int (G 15), .int (G 16)])), (h1, xI (d 0) 9 Nn), (h2, xI (d 0) 9 Hh), (h3, xI (d 0) 61 Mk), (h4, xI (d 1) 9 Sk_7)]) (pl := []) hE C T [0, 1, 2, 3, 4] rfl U hU hW)) _) (mtX4_slides l hE D d hs h1 h2 h3 h4 h5 G Nn Hh Mk Sk_7 H.size _ hw) (cwV 0 hts (lw_V q965 q966 q967 q108 q968) rfl rfl rfl (by decide +kernel) ⟨Nat.le_of_ble_eq_true rfl, Nat.le_of_ble_eq_true rfl⟩) (x_recvA T (ci := 2) rfl (T.at0 0 rfl)) rfl hl.1 (lv_room (Nat.le_of_ble_eq_true rfl)) dX4_turnsStuck_34 ⟨(Nat.le_of_ble_eq_true rfl), (Nat.le_of_ble_eq_true rfl)⟩) (fun r u H locs hw T => ?_)
      obtain ⟨r_9, rfl⟩ : ∃ z, z = r := ⟨_, rfl⟩
      obtain ⟨Hh_10, G_11⟩ := u
      replace T : xT E D (xTys d) A s H locs ([(hs, .inr (2, [.ref h1, .ref h2, .ref h3, .ref h4, .ref h5, .int (G_11 5), .int (G_11 6), .int (G_11 7), .int (G_11 8), .int (G_11 9), .int (G_11 10), .int (G_11 11), .int (G_11 12), .int (G_11 13), .int (G_11 14), .int (G_11 15), .int (G_11 16)])), (h1, xI (d 0) 9 Nn), (h2, xI (d 0) 9 Hh_10), (h3, xI (d 0) 61 Mk), (h4, xI (d 1) 9 Sk_7)]) := T
      exact x_iret (u := (Hh_10, Sk_7, G_11)) C T hw (Nat.le_of_ble_eq_true rfl) (Nat.le_of_ble_eq_true rfl) dX4_turnsStuck_37
    · replace hw := hw.2 c_8
      refine lv_iconst (v := 0) hx hb dX4_turnsStuck_29 (by decide) ?_
      refine lv_goto (tgt := 37) hx hb dX4_turnsStuck_30 (by decide) ?_
      exact x_iret (u := (Hh, Sk_7, G)) C T hw (Nat.le_of_ble_eq_true rfl) (Nat.le_of_ble_eq_true rfl) dX4_turnsStuck_37
def wX4_units_13 (post : Int32 → Prop) (x3 : Int32) (G : Nat → Int32) (Nn : Nat → Int32) (Hh : Nat → Int32) (Mk : Nat → Int32) (Sk : Nat → Int32) : Nat → Int32 → Int32 → Prop
  | 0 => fun _ _ => False
  | k9 + 1 => fun x1 x4 => ((x3 ≤ x4 → (post x1)) ∧ (¬ x3 ≤ x4 → (vp_in x4 9 ∧ (∀ x5_2 : Int32, x5_2 = Hh x4.toNatClampNeg → (∀ x1_3 : Int32, x1_3 = x1 + x5_2 → (∀ x4_4 : Int32, x4_4 = x4 + 1 → (wX4_units_13 post x3 G Nn Hh Mk Sk k9 x1_3 x4_4)))))))
def wpX4_units (post : Int32 → Prop) (G : Nat → Int32) (Nn : Nat → Int32) (Hh : Nat → Int32) (Mk : Nat → Int32) (Sk : Nat → Int32) : Prop := (∃ fu13 : Nat, wX4_units_13 post 9 G Nn Hh Mk Sk fu13 0 0)
set_option maxHeartbeats 4000000 in
set_option maxRecDepth 100000 in
theorem wkX4_units_13 (l : Launch) {κ : xK} {E : xEnv} (hE : xStable κ E) (D : va_G) (d : Nat → ClassId) (hs h1 h2 h3 h4 h5 : Nat) (post : Int32 → Prop) {p : Program} {e : Env} {s : State} {m : MethodId} {args : Array Value} {below : List Frame} {meth : Method} {c : Code} {A : Nat → Prop} (C : xC RX4 cX4_units 6 (some .int) p s m args meth c A) (x3 : Int32) (G : Nat → Int32) (Nn : Nat → Int32) (Hh : Nat → Int32) (Mk : Nat → Int32) (Sk : Nat → Int32) : ∀ (k9 : Nat) (x1 : Int32) (x4 : Int32), wX4_units_13 post x3 G Nn Hh Mk Sk k9 x1 x4 → ∀ (H : Heap) (locs : List Loc), xT E D (xTys d) A s H locs ([(hs, .inr (2, [.ref h1, .ref h2, .ref h3, .ref h4, .ref h5, .int (G 5), .int (G 6), .int (G 7), .int (G 8), .int (G 9), .int (G 10), .int (G 11), .int (G 12), .int (G 13), .int (G 14), .int (G 15), .int (G 16)])), (h1, xI (d 0) 9 Nn), (h2, xI (d 0) 9 Hh), (h3, xI (d 0) 61 Mk), (h4, xI (d 1) 9 Sk)]) → ∀ ls : Array Slot, lv_has ls 6 [(1, .int x1), (2, .ref h2), (3, .int x3), (4, .int x4)] → W p l e (headSpec (ws_ yX4_units cX4_units 6 (some .int)) ({ frames := 1, cells := 0, slots := 0, locals := 0 } : Room)).room s m args below meth c H locs 0 0 (MQ below (va_Qi (fun (r : Int32) (u : Unit) => post r) (xB D (xTys d) A (fun (u : Unit) => [(hs, .inr (2, [.ref h1, .ref h2, .ref h3, .ref h4, .ref h5, .int (G 5), .int (G 6), .int (G 7), .int (G 8), .int (G 9), .int (G 10), .int (G 11), .int (G 12), .int (G 13), .int (G 14), .int (G 15), .int (G 16)])), (h1, xI (d 0) 9 Nn), (h2, xI (d 0) 9 Hh), (h3, xI (d 0) 61 Mk), (h4, xI (d 1) 9 Sk)])) A) args s 0 0 A) (F0 m 13 ls []) := by
  obtain ⟨hx, hb, hr, hlk, hml, hown, hts, hA⟩ := id C
  intro k9
  induction k9 with
  | zero =>
    intro x1 x4 hw
    exact hw.elim
  | succ k9 ih =>
    intro x1 x4 hw H locs T ls hl
    rw [wX4_units_13] at hw
    refine lv_iload hx hb dX4_units_13 (lv_at hl 3 rfl) ?_
    refine lv_iload_n hx hb dX4_units_15 rfl (lv_at hl 2 rfl) ?_
    refine lv_icmp_ge (tgt := 36) hx hb dX4_units_16 (by decide) (fun c_1 => ?_) (fun c_1 => ?_)
    · replace hw := hw.1 c_1
      refine lv_iload_n hx hb dX4_units_36 rfl (lv_at hl 0 rfl) ?_
      exact x_iret (u := ()) C T hw (Nat.le_of_ble_eq_true rfl) (Nat.le_of_ble_eq_true rfl) dX4_units_37
    · replace hw := hw.2 c_1
      refine lv_aload_n hx hb dX4_units_19 rfl (lv_at hl 1 rfl) ?_
      refine lv_iload hx hb dX4_units_20 (lv_at hl 3 rfl) ?_
      refine x_ialdE C T 0 (T.at0 2 rfl) rfl hw.1 rfl dX4_units_22 ?_
      replace hw := hw.2
      refine lv_topi (fun x5_2 ex5_2 => ?_)
      replace hw := hw x5_2 ex5_2
      refine lv_istore (lv' := [(5, .int x5_2), (1, .int x1), (2, .ref h2), (3, .int x3), (4, .int x4)]) hx hb dX4_units_23 hl (by decide) rfl (fun ls hl => ?_)
      refine lv_iload_n hx hb dX4_units_25 rfl (lv_at hl 1 rfl) ?_
      refine lv_iload hx hb dX4_units_26 (lv_at hl 0 rfl) ?_
      refine lv_iadd hx hb dX4_units_28 ?_
      refine lv_topi (fun x1_3 ex1_3 => ?_)
      replace hw := hw x1_3 ex1_3
      refine lv_istore_n (lv' := [(1, .int x1_3), (5, .int x5_2), (2, .ref h2), (3, .int x3), (4, .int x4)]) hx hb dX4_units_29 rfl hl (by decide) rfl (fun ls hl => ?_)
      obtain ⟨x4_4, ex4_4⟩ : ∃ z : Int32, z = x4 + 1 := ⟨_, rfl⟩
      replace hw := hw x4_4 ex4_4
      refine lv_iinc (v := x4_4) (lv' := [(4, .int x4_4), (1, .int x1_3), (5, .int x5_2), (2, .ref h2), (3, .int x3)]) hx hb dX4_units_30 hl (k := 4) rfl (by rw [ex4_4]; rfl) (by decide) rfl (fun ls hl => ?_)
      refine lv_goto (tgt := 13) hx hb dX4_units_33 (by decide) ?_
      exact ih x1_3 x4_4 hw _ _ T _ (lv_sub hl [1, 3, 4, 0] rfl)
set_option maxHeartbeats 4000000 in
set_option maxRecDepth 100000 in
theorem mtX4_units (l : Launch) {κ : xK} {E : xEnv} (hE : xStable κ E) (D : va_G) (d : Nat → ClassId) (hs h1 h2 h3 h4 h5 : Nat) (G : Nat → Int32) (Nn : Nat → Int32) (Hh : Nat → Int32) (Mk : Nat → Int32) (Sk : Nat → Int32) (sz : Nat) (post : Int32 → Prop) (hw : wpX4_units post G Nn Hh Mk Sk) : Met l yX4_units (ws_ yX4_units cX4_units 6 (some .int)) ({ frames := 1, cells := 0, slots := 0, locals := 0 } : Room) (xPc E D (xTys d) ([(hs, .inr (2, [.ref h1, .ref h2, .ref h3, .ref h4, .ref h5, .int (G 5), .int (G 6), .int (G 7), .int (G 8), .int (G 9), .int (G 10), .int (G 11), .int (G 12), .int (G 13), .int (G 14), .int (G 15), .int (G 16)])), (h1, xI (d 0) 9 Nn), (h2, xI (d 0) 9 Hh), (h3, xI (d 0) 61 Mk), (h4, xI (d 1) 9 Sk)]) sz [.ref hs]) ((fun A : Nat → Prop => va_Qi (fun (r : Int32) (u : Unit) => post r) (xB D (xTys d) A (fun (u : Unit) => [(hs, .inr (2, [.ref h1, .ref h2, .ref h3, .ref h4, .ref h5, .int (G 5), .int (G 6), .int (G 7), .int (G 8), .int (G 9), .int (G 10), .int (G 11), .int (G 12), .int (G 13), .int (G 14), .int (G 15), .int (G 16)])), (h1, xI (d 0) 9 Nn), (h2, xI (d 0) 9 Hh), (h3, xI (d 0) 61 Mk), (h4, xI (d 1) 9 Sk)])) A) (va_A ([(hs, .inr (2, [.ref h1, .ref h2, .ref h3, .ref h4, .ref h5, .int (G 5), .int (G 6), .int (G 7), .int (G 8), .int (G 9), .int (G 10), .int (G 11), .int (G 12), .int (G 13), .int (G 14), .int (G 15), .int (G 16)])), (h1, xI (d 0) 9 Nn), (h2, xI (d 0) 9 Hh), (h3, xI (d 0) 61 Mk), (h4, xI (d 1) 9 Sk)]) sz)) 0 0 (va_A ([(hs, .inr (2, [.ref h1, .ref h2, .ref h3, .ref h4, .ref h5, .int (G 5), .int (G 6), .int (G 7), .int (G 8), .int (G 9), .int (G 10), .int (G 11), .int (G 12), .int (G 13), .int (G 14), .int (G 15), .int (G 16)])), (h1, xI (d 0) 9 Nn), (h2, xI (d 0) 9 Hh), (h3, xI (d 0) 61 Mk), (h4, xI (d 1) 9 Sk)]) sz) := by
  refine x_start (QcA := fun A => va_Qi (fun (r : Int32) (u : Unit) => post r) (xB D (xTys d) A (fun (u : Unit) => [(hs, .inr (2, [.ref h1, .ref h2, .ref h3, .ref h4, .ref h5, .int (G 5), .int (G 6), .int (G 7), .int (G 8), .int (G 9), .int (G 10), .int (G 11), .int (G 12), .int (G 13), .int (G 14), .int (G 15), .int (G 16)])), (h1, xI (d 0) 9 Nn), (h2, xI (d 0) 9 Hh), (h3, xI (d 0) 61 Mk), (h4, xI (d 1) 9 Sk)])) A) hE (by decide) (Nat.le_of_ble_eq_true rfl) ?_
  intro p e s m below meth c A C H locs hsz T ls hl
  obtain ⟨hx, hb, hr, hlk, hml, hown, hts, hA⟩ := id C
  replace hl : lv_has ls 6 [(0, .ref hs)] := hl
  unfold wpX4_units at hw
  refine lv_iconst (v := 0) hx hb dX4_units_0 (by decide) ?_
  refine lv_istore_n (lv' := [(1, .int 0), (0, .ref hs)]) hx hb dX4_units_1 rfl hl (by decide) rfl (fun ls hl => ?_)
  refine lv_aload_n hx hb dX4_units_2 rfl (lv_at hl 1 rfl) ?_
  refine x_getA (v := .ref h2) (ci := 2) C T (T.at0 0 rfl) rfl 1 (by decide) in_X4 q647 rfl dX4_units_3 ?_
  refine lv_astore_n (lv' := [(2, .ref h2), (1, .int 0), (0, .ref hs)]) hx hb dX4_units_6 rfl hl (by decide) rfl (fun ls hl => ?_)
  refine lv_aload_n hx hb dX4_units_7 rfl (lv_at hl 0 rfl) ?_
  refine va_alen (v := 9) hx hb T.1 (x_nowP (T.at0 2 rfl)) 0 0 rfl rfl rfl dX4_units_8 ?_
  refine lv_istore_n (lv' := [(3, .int 9), (2, .ref h2), (1, .int 0), (0, .ref hs)]) hx hb dX4_units_9 rfl hl (by decide) rfl (fun ls hl => ?_)
  refine lv_iconst (v := 0) hx hb dX4_units_10 (by decide) ?_
  refine lv_istore (lv' := [(4, .int 0), (3, .int 9), (2, .ref h2), (1, .int 0), (0, .ref hs)]) hx hb dX4_units_11 hl (by decide) rfl (fun ls hl => ?_)
  obtain ⟨fu13, hw⟩ := hw
  exact wkX4_units_13 l hE D d hs h1 h2 h3 h4 h5 post C  9 G Nn Hh Mk Sk fu13 0 0 hw _ _ T _ (lv_sub hl [3, 2, 1, 0] rfl)
