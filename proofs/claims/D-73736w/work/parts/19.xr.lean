/-! the component, part r: weakest preconditions and walks (printed) -/
set_option maxRecDepth 100000
/-- CaseGrouper$Reader.<init>(LCaseGrouper;I)V -/
def wp_X6_init (G : GP) (B : Nat) (post : HS → Prop) (y0 : HS) (a0 : Nat) (p1 : Option Nat) (i2 : Int32) : Prop := ∃ fs2, y0.1 a0 = some (ob 4 fs2) ∧ 9 < fs2.length ∧ ∀ y1, y1 = hput y0 a0 (ob 4 (fs2.set 9 (va_rf p1))) → 0 + 1 ≤ B ∧ ∀ a4, a4 = y1.2 → ∀ y3, y3 = hnew y1 (ob 1 [va_rf none, va_rf none, va_rf none, va_rf none, va_rf none, va_rf none, va_rf none, .int 0, .int 0]) → ∃ k6, (0 + 1) + k6 ≤ B ∧ wp_X2_init G k6 (fun y5 => ∃ fs8, y5.1 a0 = some (ob 4 fs8) ∧ 1 < fs8.length ∧ ∀ y7, y7 = hput y5 a0 (ob 4 (fs8.set 1 (va_rf (some a4)))) → ∃ fs10, y7.1 a0 = some (ob 4 fs10) ∧ 0 < fs10.length ∧ ∀ y9, y9 = hput y7 a0 (ob 4 (fs10.set 0 (.int (i2)))) → post y9) y3 a4
theorem hs_X6_init : yX6_init.cls ≠ "java/lang/invoke/MethodHandle" ∧ yX6_init.cls ≠ "java/lang/invoke/VarHandle" ∧ (parseMethodDescriptor yX6_init.desc).map (fun d => d.parameters.length) = some 2 := by decide +kernel
set_option maxHeartbeats 4000000 in
theorem met_X6_init (l : Launch) (htr : l.stackTraces = false) (G : GP) (d : Nat) {B : Nat} {post : HS → Prop} {y0 : HS} {a0 : Nat} {p1 : Option Nat} {i2 : Int32} (hw : wp_X6_init G B post y0 a0 p1 i2) : vx_Met l yX6_init (ws_ yX6_init cX6_init 3 none) (rmB (d + 5) B) (hPc G y0 [va_rf (some a0), va_rf p1, .int (i2)]) (hQv G y0 post) (hX G y0 (fun _ _ _ => False)) B (20 * B) (HA y0) := by
  unfold wp_X6_init at hw
  refine hv_met (own := RX6) (by decide) rfl (by simp [lg_sl, va_rf_cat, int_cat, long_cat]) ?_
  intro p e s m args below meth c ls E hr hlocks hnm hE hK hI hl
  replace hl : lv_has ls 3 [(0, va_rf (some a0)), (1, va_rf p1), (2, .int (i2))] := by simpa [lv_args, va_rf_cat, int_cat, long_cat] using hl
  have hu : 0 ≤ B := Nat.zero_le _
  refine hv_aload_n (r := some a0) E.1 E.2.1 dX6_init_0 rfl (lv_at hl 0 rfl) ?_
  refine hv_aload_n (r := p1) E.1 E.2.1 dX6_init_1 rfl (lv_at hl 1 rfl) ?_
  obtain ⟨fs2, hfs, hln, hw⟩ := hw
  refine hv_putF (v := va_rf p1) E hK hI ciX6 9 (Nat.le_of_ble_eq_true rfl) q287 (fun _ h => h) rfl hnm rfl (rf_nar _ _ rfl) (rf_fit _ _ rfl) hfs hln dX6_init_2 (fun H locs hI => ?_)
  obtain ⟨y1, ey1⟩ : ∃ w, w = hput y0 a0 (ob 4 (fs2.set 9 (va_rf p1))) := ⟨_, rfl⟩
  rw [← ey1] at hI
  replace hw := hw y1 ey1
  refine hv_aload_n (r := some a0) E.1 E.2.1 dX6_init_5 rfl (lv_at hl 0 rfl) ?_
  refine hv_objInit (r := some a0) E q193 hl.1 rfl (by first | rfl | decide | (simp [va_rf_cat, int_cat, long_cat]; done) | (simp [va_rf_cat, int_cat, long_cat]; decide)) dX6_init_6 ?_
  refine hv_aload_n (r := some a0) E.1 E.2.1 dX6_init_9 rfl (lv_at hl 0 rfl) ?_
  obtain ⟨hu, hw⟩ := hw
  refine hv_new (fs := [va_rf none, va_rf none, va_rf none, va_rf none, va_rf none, va_rf none, va_rf none, .int 0, .int 0]) E hK hI ciX2 q196 q197 q125 (df1) (Nat.le_of_ble_eq_true rfl) hu dX6_init_10 (fun H hI => ?_)
  obtain ⟨a4, ea4⟩ : ∃ w, w = y1.2 := ⟨_, rfl⟩
  obtain ⟨y3, ey3⟩ : ∃ w, w = hnew y1 (ob 1 [va_rf none, va_rf none, va_rf none, va_rf none, va_rf none, va_rf none, va_rf none, .int 0, .int 0]) := ⟨_, rfl⟩
  rw [← ea4]
  rw [← ey3] at hI
  replace hw := hw a4 ea4 y3 ey3
  refine hv_dup E.1 E.2.1 dX6_init_13 ?_
  obtain ⟨k6, hB, hw⟩ := hw
  have hq := hw
  clear hw
  refine hv_callv (u := ((0 + 1))) (B1 := k6) hI (vx_runIN (R := rmB (d + 5) B) (b := a4) (As := []) (rest := [va_rf (some a4), va_rf (some a0)]) E (met_X2_init l G (d) hq) ⟨va_cnB 0 E.2.2.2.2 (lw_meth q200) rfl rfl rfl (hK.2.2.2.2.1 _ q198 rfl) (E.2.2.2.2 _ q125) hs_X2_init (rm_ok (by omega) (by decide)), rfl, E.2.2.2.2 _ q199⟩ (hv_preS hK hI) rfl rfl hl.1 rfl (lv_room (by first | rfl | decide | (simp [va_rf_cat, int_cat, long_cat]; done) | (simp [va_rf_cat, int_cat, long_cat]; decide))) dX6_init_14 (hv_fit (by first | exact hB | omega))) (fun _ _ _ _ _ h => h.elim) (fun y5 H locs hw hI => ?_)
  have hu := hB
  obtain ⟨fs8, hfs, hln, hw⟩ := hw
  refine hv_putF (v := va_rf (some a4)) E hK hI ciX6 1 (Nat.le_of_ble_eq_true rfl) q278 (fun _ h => h) rfl hnm rfl (rf_nar _ _ rfl) (rf_fit _ _ rfl) hfs hln dX6_init_17 (fun H locs hI => ?_)
  obtain ⟨y7, ey7⟩ : ∃ w, w = hput y5 a0 (ob 4 (fs8.set 1 (va_rf (some a4)))) := ⟨_, rfl⟩
  rw [← ey7] at hI
  replace hw := hw y7 ey7
  refine hv_aload_n (r := some a0) E.1 E.2.1 dX6_init_20 rfl (lv_at hl 0 rfl) ?_
  refine lv_iload_n E.1 E.2.1 dX6_init_21 rfl (lv_at hl 2 rfl) ?_
  obtain ⟨fs10, hfs, hln, hw⟩ := hw
  refine hv_putF (v := .int (i2)) E hK hI ciX6 0 (Nat.le_of_ble_eq_true rfl) q277 (fun _ h => h) rfl hnm rfl rfl rfl hfs hln dX6_init_22 (fun H locs hI => ?_)
  obtain ⟨y9, ey9⟩ : ∃ w, w = hput y7 a0 (ob 4 (fs10.set 0 (.int (i2)))) := ⟨_, rfl⟩
  rw [← ey9] at hI
  replace hw := hw y9 ey9
  exact hv_vret E hr hlocks hI hu hw dX6_init_25
/-- CaseGrouper$Reader.wrong(I)LCaseGrouper$Wrong; -/
def wp_X6_wrong (G : GP) (B : Nat) (post : Option Nat → HS → Prop) (y0 : HS) (a0 : Nat) (i1 : Int32) : Prop := 0 + 1 ≤ B ∧ ∀ a2, a2 = y0.2 → ∀ y1, y1 = hnew y0 (ob 6 [va_rf none, va_rf none, va_rf none, va_rf none, va_rf none, .int 0, .int 0]) → ∃ f3, fI y1 a0 4 3 f3 ∧ wp_X8_init G (fun y4 => post (some a2) y4) y1 a2 f3 i1
theorem hs_X6_wrong : yX6_wrong.cls ≠ "java/lang/invoke/MethodHandle" ∧ yX6_wrong.cls ≠ "java/lang/invoke/VarHandle" ∧ (parseMethodDescriptor yX6_wrong.desc).map (fun d => d.parameters.length) = some 1 := by decide +kernel
theorem hd_X6_wrong : yX6_wrong.cls = RX6 ∧ yX6_wrong.cls ≠ "java/lang/invoke/MethodHandle" ∧ yX6_wrong.cls ≠ "java/lang/invoke/VarHandle" ∧ (parseMethodDescriptor yX6_wrong.desc).map (fun d => d.parameters.length) = some 1 := by decide +kernel
set_option maxHeartbeats 4000000 in
theorem met_X6_wrong (l : Launch) (htr : l.stackTraces = false) (G : GP) (d : Nat) {B : Nat} {post : Option Nat → HS → Prop} {y0 : HS} {a0 : Nat} {i1 : Int32} (hw : wp_X6_wrong G B post y0 a0 i1) : vx_Met l yX6_wrong (ws_ yX6_wrong cX6_wrong 2 (some (.object "CaseGrouper$Wrong"))) (rmB (d + 4) B) (hPc G y0 [va_rf (some a0), .int (i1)]) (hQq G y0 post) (hX G y0 (fun _ _ _ => False)) B (20 * B) (HA y0) := by
  unfold wp_X6_wrong at hw
  refine hv_met (own := RX6) (by decide) rfl (Nat.le_of_ble_eq_true rfl) ?_
  intro p e s m args below meth c ls E hr hlocks hnm hE hK hI hl
  replace hl : lv_has ls 2 [(0, va_rf (some a0)), (1, .int (i1))] := hl
  have hu : 0 ≤ B := Nat.zero_le _
  obtain ⟨hu, hw⟩ := hw
  refine hv_new (fs := [va_rf none, va_rf none, va_rf none, va_rf none, va_rf none, .int 0, .int 0]) E hK hI ciX8 q313 q602 q148 (df6) (Nat.le_of_ble_eq_true rfl) hu dX6_wrong_0 (fun H hI => ?_)
  obtain ⟨a2, ea2⟩ : ∃ w, w = y0.2 := ⟨_, rfl⟩
  obtain ⟨y1, ey1⟩ : ∃ w, w = hnew y0 (ob 6 [va_rf none, va_rf none, va_rf none, va_rf none, va_rf none, .int 0, .int 0]) := ⟨_, rfl⟩
  rw [← ea2]
  rw [← ey1] at hI
  replace hw := hw a2 ea2 y1 ey1
  refine hv_dup E.1 E.2.1 dX6_wrong_3 ?_
  refine hv_aload_n (r := some a0) E.1 E.2.1 dX6_wrong_4 rfl (lv_at hl 0 rfl) ?_
  obtain ⟨f3, ⟨fs, hfs, hfk⟩, hw⟩ := hw
  refine hv_get (v := .int f3) E hK hI ciX6 3 (Nat.le_of_ble_eq_true rfl) q280 (fun _ h => h) (Or.inl hfs) hfk dX6_wrong_5 ?_
  refine lv_iload_n E.1 E.2.1 dX6_wrong_8 rfl (lv_at hl 1 rfl) ?_
  have hq := hw
  clear hw
  refine hv_callv (u := ((0 + 1))) (B1 := 0) hI (vx_runI (b := a2) (As := [.int (f3), .int (i1)]) (rest := [va_rf (some a2)]) E (met_X8_init l G (d) hq) (cwI 2 E.2.2.2.2 (lw_meth q658) rfl rfl rfl (E.2.2.2.2 _ q148) (E.2.2.2.2 _ q656) (E.2.2.2.2 _ q657) rfl hs_X8_init (rm_ok (by omega) (by decide))) (hv_preS hK hI) rfl rfl hl.1 rfl (lv_room (by first | rfl | decide | (simp [va_rf_cat, int_cat, long_cat]; done) | (simp [va_rf_cat, int_cat, long_cat]; decide))) dX6_wrong_9 (hv_fit (by first | exact hu | omega))) (fun _ _ _ _ _ h => h.elim) (fun y4 H locs hw hI => ?_)
  exact hv_aret (r := some a2) E hr (Or.inl ⟨_, rfl⟩) hlocks hI hu hw dX6_wrong_12
/-- CaseGrouper$Reader.must(ZI)V -/
def wp_X6_must (G : GP) (B : Nat) (post : HS → Prop) (xp : Nat → Nat → HS → Prop) (y0 : HS) (a0 : Nat) (o1 : Bool) (i2 : Int32) : Prop := (o1 = true → post y0) ∧ (o1 = false → (∃ fs4, rd G y0 a0 (ob 4 fs4)) ∧ ∃ k5, 0 + k5 ≤ B ∧ wp_X6_wrong G k5 (fun r3 y2 => ∃ a6, r3 = some a6 ∧ ∃ fs7, y2.1 a6 = some (ob 6 fs7) ∧ xp 6 a6 y2) y0 a0 i2)
theorem hs_X6_must : yX6_must.cls ≠ "java/lang/invoke/MethodHandle" ∧ yX6_must.cls ≠ "java/lang/invoke/VarHandle" ∧ (parseMethodDescriptor yX6_must.desc).map (fun d => d.parameters.length) = some 2 := by decide +kernel
theorem hd_X6_must : yX6_must.cls = RX6 ∧ yX6_must.cls ≠ "java/lang/invoke/MethodHandle" ∧ yX6_must.cls ≠ "java/lang/invoke/VarHandle" ∧ (parseMethodDescriptor yX6_must.desc).map (fun d => d.parameters.length) = some 2 := by decide +kernel
set_option maxHeartbeats 4000000 in
theorem met_X6_must (l : Launch) (htr : l.stackTraces = false) (G : GP) (d : Nat) {B : Nat} {post : HS → Prop} {xp : Nat → Nat → HS → Prop} {y0 : HS} {a0 : Nat} {o1 : Bool} {i2 : Int32} (hw : wp_X6_must G B post xp y0 a0 o1 i2) : vx_Met l yX6_must (ws_ yX6_must cX6_must 3 none) (rmB (d + 5) B) (hPc G y0 [va_rf (some a0), .int (bi o1), .int (i2)]) (hQv G y0 post) (hX G y0 xp) B (20 * B) (HA y0) := by
  unfold wp_X6_must at hw
  refine hv_met (own := RX6) (by decide) rfl (Nat.le_of_ble_eq_true rfl) ?_
  intro p e s m args below meth c ls E hr hlocks hnm hE hK hI hl
  replace hl : lv_has ls 3 [(0, va_rf (some a0)), (1, .int (bi o1)), (2, .int (i2))] := hl
  have hu : 0 ≤ B := Nat.zero_le _
  refine lv_iload_n E.1 E.2.1 dX6_must_0 rfl (lv_at hl 1 rfl) ?_
  refine lv_if_ne (tgt := 10) E.1 E.2.1 dX6_must_1 (by decide) (fun c1 => ?_) (fun c1 => ?_)
  · replace hw := hw.1 (bi_n c1)
    exact hv_vret E hr hlocks hI hu hw dX6_must_10
  · replace hw := hw.2 (bi_z c1)
    refine hv_aload_n (r := some a0) E.1 E.2.1 dX6_must_4 rfl (lv_at hl 0 rfl) ?_
    refine lv_iload_n E.1 E.2.1 dX6_must_5 rfl (lv_at hl 2 rfl) ?_
    obtain ⟨⟨fs4, hrv⟩, hw⟩ := hw
    obtain ⟨k5, hB, hw⟩ := hw
    have hq := hw
    clear hw
    refine hv_callq (u := 0) (B1 := k5) hI (vx_runV (As := [.int (i2)]) (rest := []) E (met_X6_wrong l htr G (d) hq) (cwV 1 E.2.2.2.2 (lw_V q598 q600 qs10 q129 q601) rfl rfl rfl hd_X6_wrong (rm_ok (by omega) (by decide))) (hv_preV hK hI hrv rfl) rfl rfl hl.1 rfl (lv_room (by first | rfl | decide | (simp [va_rf_cat, int_cat, long_cat]; done) | (simp [va_rf_cat, int_cat, long_cat]; decide))) dX6_must_6 (hv_fit (by first | exact hB | omega))) (fun _ _ _ _ _ h => h.elim) (fun r3 y2 H locs hw hI => ?_)
    have hu := hB
    obtain ⟨a6, ea6, hw⟩ := hw
    revert hl hw; subst ea6; intro hl hw
    obtain ⟨fs7, hfs, hw⟩ := hw
    refine hv_athrow (q := a6) E dX6_must_9 ?_
    exact hv_out hE hlocks hI (hI.xcell hK (by decide) hfs) hu hw
/-- CaseGrouper$Reader.isTold(Ljava/lang/String;)Z -/
def wp_X6_isTold (G : GP) (post : Bool → HS → Prop) (y0 : HS) (a0 : Nat) (p1 : Option Nat) : Prop := ∃ J1 : HS → Int32 → Prop, (∀ (y3 : HS) (x4 : Int32), J1 y3 x4 → (x4 = nI 0 → post true y3) ∧ (¬ x4 = nI 0 → (x4 = nI 1 → post true y3) ∧ (¬ x4 = nI 1 → (x4 = nI 2 → post true y3) ∧ (¬ x4 = nI 2 → (x4 = nI 3 → post true y3) ∧ (¬ x4 = nI 3 → (x4 = nI 4 → post true y3) ∧ (¬ x4 = nI 4 → (x4 = nI 5 → post true y3) ∧ (¬ x4 = nI 5 → (x4 = nI 6 → post true y3) ∧ (¬ x4 = nI 6 → (x4 = nI 7 → post true y3) ∧ (¬ x4 = nI 7 → (x4 = nI 8 → post true y3) ∧ (¬ x4 = nI 8 → (x4 = nI 9 → post true y3) ∧ (¬ x4 = nI 9 → (x4 = nI 10 → post true y3) ∧ (¬ x4 = nI 10 → (x4 = nI 11 → post true y3) ∧ (¬ x4 = nI 11 → (x4 = nI 12 → post true y3) ∧ (¬ x4 = nI 12 → (x4 = nI 13 → post true y3) ∧ (¬ x4 = nI 13 → (x4 = nI 14 → post true y3) ∧ (¬ x4 = nI 14 → (x4 = nI 15 → post true y3) ∧ (¬ x4 = nI 15 → (x4 = nI 16 → post true y3) ∧ (¬ x4 = nI 16 → (x4 = nI 17 → post true y3) ∧ (¬ x4 = nI 17 → (x4 = nI 18 → post true y3) ∧ (¬ x4 = nI 18 → (x4 = nI 19 → post true y3) ∧ (¬ x4 = nI 19 → post false y3))))))))))))))))))))) ∧ (∃ a25, p1 = some a25 ∧ (∃ fs28, rd G y0 a25 (ob 20 fs28)) ∧ wp_J5_hashCode G (fun x27 y26 => (x27 = (-792929080) → (∃ fs32, rd G y26 a25 (ob 20 fs32)) ∧ wp_J5_equals G (fun b31 y30 => (b31 = false → J1 y30 ((-1))) ∧ (b31 = true → J1 y30 (nI 2))) y26 a25 (some (gK G 14))) ∧ (¬ x27 = (-792929080) → (x27 = nI 3357 → (∃ fs37, rd G y26 a25 (ob 20 fs37)) ∧ wp_J5_equals G (fun b36 y35 => (b36 = false → J1 y35 ((-1))) ∧ (b36 = true → J1 y35 (nI 7))) y26 a25 (some (gK G 9))) ∧ (¬ x27 = nI 3357 → (x27 = nI 3555 → (∃ fs42, rd G y26 a25 (ob 20 fs42)) ∧ wp_J5_equals G (fun b41 y40 => (b41 = false → J1 y40 ((-1))) ∧ (b41 = true → J1 y40 (nI 10))) y26 a25 (some (gK G 13))) ∧ (¬ x27 = nI 3555 → (x27 = nI 3707 → (∃ fs47, rd G y26 a25 (ob 20 fs47)) ∧ wp_J5_equals G (fun b46 y45 => (b46 = false → J1 y45 ((-1))) ∧ (b46 = true → J1 y45 (nI 4))) y26 a25 (some (gK G 17))) ∧ (¬ x27 = nI 3707 → (x27 = nI 96511 → (∃ fs52, rd G y26 a25 (ob 20 fs52)) ∧ wp_J5_equals G (fun b51 y50 => (b51 = false → J1 y50 ((-1))) ∧ (b51 = true → J1 y50 (nI 16))) y26 a25 (some (gK G 0))) ∧ (¬ x27 = nI 96511 → (x27 = nI 96727 → (∃ fs57, rd G y26 a25 (ob 20 fs57)) ∧ wp_J5_equals G (fun b56 y55 => (b56 = false → J1 y55 ((-1))) ∧ (b56 = true → J1 y55 (nI 11))) y26 a25 (some (gK G 1))) ∧ (¬ x27 = nI 96727 → (x27 = nI 97921 → (∃ fs62, rd G y26 a25 (ob 20 fs62)) ∧ wp_J5_equals G (fun b61 y60 => (b61 = false → J1 y60 ((-1))) ∧ (b61 = true → J1 y60 (nI 5))) y26 a25 (some (gK G 2))) ∧ (¬ x27 = nI 97921 → (x27 = nI 99455 → (∃ fs67, rd G y26 a25 (ob 20 fs67)) ∧ wp_J5_equals G (fun b66 y65 => (b66 = false → J1 y65 ((-1))) ∧ (b66 = true → J1 y65 (nI 15))) y26 a25 (some (gK G 6))) ∧ (¬ x27 = nI 99455 → (x27 = nI 103066 → (∃ fs72, rd G y26 a25 (ob 20 fs72)) ∧ wp_J5_equals G (fun b71 y70 => (b71 = false → J1 y70 ((-1))) ∧ (b71 = true → J1 y70 (nI 13))) y26 a25 (some (gK G 8))) ∧ (¬ x27 = nI 103066 → (x27 = nI 109267 → (∃ fs77, rd G y26 a25 (ob 20 fs77)) ∧ wp_J5_equals G (fun b76 y75 => (b76 = false → J1 y75 ((-1))) ∧ (b76 = true → J1 y75 (nI 12))) y26 a25 (some (gK G 12))) ∧ (¬ x27 = nI 109267 → (x27 = nI 115029 → (∃ fs82, rd G y26 a25 (ob 20 fs82)) ∧ wp_J5_equals G (fun b81 y80 => (b81 = false → J1 y80 ((-1))) ∧ (b81 = true → J1 y80 (nI 19))) y26 a25 (some (gK G 18))) ∧ (¬ x27 = nI 115029 → (x27 = nI 3076183 → (∃ fs87, rd G y26 a25 (ob 20 fs87)) ∧ wp_J5_equals G (fun b86 y85 => (b86 = false → J1 y85 ((-1))) ∧ (b86 = true → J1 y85 (nI 17))) y26 a25 (some (gK G 5))) ∧ (¬ x27 = nI 3076183 → (x27 = nI 3116345 → (∃ fs92, rd G y26 a25 (ob 20 fs92)) ∧ wp_J5_equals G (fun b91 y90 => (b91 = false → J1 y90 ((-1))) ∧ (b91 = true → J1 y90 (nI 9))) y26 a25 (some (gK G 7))) ∧ (¬ x27 = nI 3116345 → (x27 = nI 3343801 → (∃ fs97, rd G y26 a25 (ob 20 fs97)) ∧ wp_J5_equals G (fun b96 y95 => (b96 = false → J1 y95 ((-1))) ∧ (b96 = true → J1 y95 (nI 14))) y26 a25 (some (gK G 11))) ∧ (¬ x27 = nI 3343801 → (x27 = nI 3492908 → (∃ fs102, rd G y26 a25 (ob 20 fs102)) ∧ wp_J5_equals G (fun b101 y100 => (b101 = false → J1 y100 ((-1))) ∧ (b101 = true → J1 y100 (nI 1))) y26 a25 (some (gK G 15))) ∧ (¬ x27 = nI 3492908 → (x27 = nI 3558941 → (∃ fs107, rd G y26 a25 (ob 20 fs107)) ∧ wp_J5_equals G (fun b106 y105 => (b106 = false → J1 y105 ((-1))) ∧ (b106 = true → J1 y105 (nI 8))) y26 a25 (some (gK G 16))) ∧ (¬ x27 = nI 3558941 → (x27 = nI 3568542 → (∃ fs112, rd G y26 a25 (ob 20 fs112)) ∧ wp_J5_equals G (fun b111 y110 => (b111 = false → J1 y110 ((-1))) ∧ (b111 = true → J1 y110 (nI 3))) y26 a25 (some (gK G 19))) ∧ (¬ x27 = nI 3568542 → (x27 = nI 94742904 → (∃ fs117, rd G y26 a25 (ob 20 fs117)) ∧ wp_J5_equals G (fun b116 y115 => (b116 = false → J1 y115 ((-1))) ∧ (b116 = true → J1 y115 (nI 6))) y26 a25 (some (gK G 4))) ∧ (¬ x27 = nI 94742904 → (x27 = nI 102865796 → (∃ fs122, rd G y26 a25 (ob 20 fs122)) ∧ wp_J5_equals G (fun b121 y120 => (b121 = false → J1 y120 ((-1))) ∧ (b121 = true → J1 y120 (nI 18))) y26 a25 (some (gK G 10))) ∧ (¬ x27 = nI 102865796 → (x27 = nI 739015757 → (∃ fs127, rd G y26 a25 (ob 20 fs127)) ∧ wp_J5_equals G (fun b126 y125 => (b126 = false → J1 y125 ((-1))) ∧ (b126 = true → J1 y125 (nI 0))) y26 a25 (some (gK G 3))) ∧ (¬ x27 = nI 739015757 → J1 y26 ((-1))))))))))))))))))))))) y0 a25)
theorem hs_X6_isTold : yX6_isTold.cls ≠ "java/lang/invoke/MethodHandle" ∧ yX6_isTold.cls ≠ "java/lang/invoke/VarHandle" ∧ (parseMethodDescriptor yX6_isTold.desc).map (fun d => d.parameters.length) = some 1 := by decide +kernel
theorem hd_X6_isTold : yX6_isTold.cls = RX6 ∧ yX6_isTold.cls ≠ "java/lang/invoke/MethodHandle" ∧ yX6_isTold.cls ≠ "java/lang/invoke/VarHandle" ∧ (parseMethodDescriptor yX6_isTold.desc).map (fun d => d.parameters.length) = some 1 := by decide +kernel
set_option maxHeartbeats 4000000 in
theorem met_X6_isTold (l : Launch) (htr : l.stackTraces = false) (G : GP) (d : Nat) {post : Bool → HS → Prop} {y0 : HS} {a0 : Nat} {p1 : Option Nat} (hw : wp_X6_isTold G post y0 a0 p1) : vx_Met l yX6_isTold (ws_ yX6_isTold cX6_isTold 4 (some .boolean)) (rmB (d + 4) 0) (hPc G y0 [va_rf (some a0), va_rf p1]) (hQz G y0 post) (hX G y0 (fun _ _ _ => False)) 0 (20 * 0) (HA y0) := by
  unfold wp_X6_isTold at hw
  refine hv_met (own := RX6) (by decide) rfl (by simp [lg_sl, va_rf_cat, int_cat, long_cat]) ?_
  intro p e s m args below meth c ls E hr hlocks hnm hE hK hI hl
  replace hl : lv_has ls 4 [(0, va_rf (some a0)), (1, va_rf p1)] := by simpa [lv_args, va_rf_cat, int_cat, long_cat] using hl
  obtain ⟨J1, hj129, hw⟩ := hw
  have jh2 : ∀ (y3 : HS) (x4 : Int32), J1 y3 x4 → ∀ (H : Heap) (locs : List Loc) (ls : Array Slot), HI G y0 y3 s H locs → lv_has ls 4 [(3, .int (x4))] → W p l e (rmB (d + 4) 0) s m args below meth c H locs 0 (20 * 0) (vx_MQ below (hQz G y0 post) (hX G y0 (fun _ _ _ => False)) args s 0 (20 * 0) (HA y0)) (F0 m 471 ls []) := by
    intro y3 x4 hw H locs ls hI hl
    replace hw := hj129 y3 x4 hw
    refine lv_iload_n E.1 E.2.1 dX6_isTold_471 rfl (lv_at hl 0 rfl) ?_
    by_cases c5 : x4 = nI 0
    · replace hw := hw.1 c5
      have hti : x4.toInt = 0 := by rw [c5]; decide
      refine lv_tableIn (tgt := 568) (off := 96) E.1 E.2.1 dX6_isTold_472 (by rw [hti]; decide) (by rw [hti]; decide) (by rw [hti]; rfl) (by decide) ?_
      refine lv_iconst (v := nI 1) E.1 E.2.1 dX6_isTold_568 rfl ?_
      exact hv_iretz (b := true) E hr hlocks hI (Nat.le_refl 0) rfl hw dX6_isTold_569
    replace hw := hw.2 c5
    by_cases c6 : x4 = nI 1
    · replace hw := hw.1 c6
      have hti : x4.toInt = 1 := by rw [c6]; decide
      refine lv_tableIn (tgt := 568) (off := 96) E.1 E.2.1 dX6_isTold_472 (by rw [hti]; decide) (by rw [hti]; decide) (by rw [hti]; rfl) (by decide) ?_
      refine lv_iconst (v := nI 1) E.1 E.2.1 dX6_isTold_568 rfl ?_
      exact hv_iretz (b := true) E hr hlocks hI (Nat.le_refl 0) rfl hw dX6_isTold_569
    replace hw := hw.2 c6
    by_cases c7 : x4 = nI 2
    · replace hw := hw.1 c7
      have hti : x4.toInt = 2 := by rw [c7]; decide
      refine lv_tableIn (tgt := 568) (off := 96) E.1 E.2.1 dX6_isTold_472 (by rw [hti]; decide) (by rw [hti]; decide) (by rw [hti]; rfl) (by decide) ?_
      refine lv_iconst (v := nI 1) E.1 E.2.1 dX6_isTold_568 rfl ?_
      exact hv_iretz (b := true) E hr hlocks hI (Nat.le_refl 0) rfl hw dX6_isTold_569
    replace hw := hw.2 c7
    by_cases c8 : x4 = nI 3
    · replace hw := hw.1 c8
      have hti : x4.toInt = 3 := by rw [c8]; decide
      refine lv_tableIn (tgt := 568) (off := 96) E.1 E.2.1 dX6_isTold_472 (by rw [hti]; decide) (by rw [hti]; decide) (by rw [hti]; rfl) (by decide) ?_
      refine lv_iconst (v := nI 1) E.1 E.2.1 dX6_isTold_568 rfl ?_
      exact hv_iretz (b := true) E hr hlocks hI (Nat.le_refl 0) rfl hw dX6_isTold_569
    replace hw := hw.2 c8
    by_cases c9 : x4 = nI 4
    · replace hw := hw.1 c9
      have hti : x4.toInt = 4 := by rw [c9]; decide
      refine lv_tableIn (tgt := 568) (off := 96) E.1 E.2.1 dX6_isTold_472 (by rw [hti]; decide) (by rw [hti]; decide) (by rw [hti]; rfl) (by decide) ?_
      refine lv_iconst (v := nI 1) E.1 E.2.1 dX6_isTold_568 rfl ?_
      exact hv_iretz (b := true) E hr hlocks hI (Nat.le_refl 0) rfl hw dX6_isTold_569
    replace hw := hw.2 c9
    by_cases c10 : x4 = nI 5
    · replace hw := hw.1 c10
      have hti : x4.toInt = 5 := by rw [c10]; decide
      refine lv_tableIn (tgt := 568) (off := 96) E.1 E.2.1 dX6_isTold_472 (by rw [hti]; decide) (by rw [hti]; decide) (by rw [hti]; rfl) (by decide) ?_
      refine lv_iconst (v := nI 1) E.1 E.2.1 dX6_isTold_568 rfl ?_
      exact hv_iretz (b := true) E hr hlocks hI (Nat.le_refl 0) rfl hw dX6_isTold_569
    replace hw := hw.2 c10
    by_cases c11 : x4 = nI 6
    · replace hw := hw.1 c11
      have hti : x4.toInt = 6 := by rw [c11]; decide
      refine lv_tableIn (tgt := 568) (off := 96) E.1 E.2.1 dX6_isTold_472 (by rw [hti]; decide) (by rw [hti]; decide) (by rw [hti]; rfl) (by decide) ?_
      refine lv_iconst (v := nI 1) E.1 E.2.1 dX6_isTold_568 rfl ?_
      exact hv_iretz (b := true) E hr hlocks hI (Nat.le_refl 0) rfl hw dX6_isTold_569
    replace hw := hw.2 c11
    by_cases c12 : x4 = nI 7
    · replace hw := hw.1 c12
      have hti : x4.toInt = 7 := by rw [c12]; decide
      refine lv_tableIn (tgt := 568) (off := 96) E.1 E.2.1 dX6_isTold_472 (by rw [hti]; decide) (by rw [hti]; decide) (by rw [hti]; rfl) (by decide) ?_
      refine lv_iconst (v := nI 1) E.1 E.2.1 dX6_isTold_568 rfl ?_
      exact hv_iretz (b := true) E hr hlocks hI (Nat.le_refl 0) rfl hw dX6_isTold_569
    replace hw := hw.2 c12
    by_cases c13 : x4 = nI 8
    · replace hw := hw.1 c13
      have hti : x4.toInt = 8 := by rw [c13]; decide
      refine lv_tableIn (tgt := 568) (off := 96) E.1 E.2.1 dX6_isTold_472 (by rw [hti]; decide) (by rw [hti]; decide) (by rw [hti]; rfl) (by decide) ?_
      refine lv_iconst (v := nI 1) E.1 E.2.1 dX6_isTold_568 rfl ?_
      exact hv_iretz (b := true) E hr hlocks hI (Nat.le_refl 0) rfl hw dX6_isTold_569
    replace hw := hw.2 c13
    by_cases c14 : x4 = nI 9
    · replace hw := hw.1 c14
      have hti : x4.toInt = 9 := by rw [c14]; decide
      refine lv_tableIn (tgt := 568) (off := 96) E.1 E.2.1 dX6_isTold_472 (by rw [hti]; decide) (by rw [hti]; decide) (by rw [hti]; rfl) (by decide) ?_
      refine lv_iconst (v := nI 1) E.1 E.2.1 dX6_isTold_568 rfl ?_
      exact hv_iretz (b := true) E hr hlocks hI (Nat.le_refl 0) rfl hw dX6_isTold_569
    replace hw := hw.2 c14
    by_cases c15 : x4 = nI 10
    · replace hw := hw.1 c15
      have hti : x4.toInt = 10 := by rw [c15]; decide
      refine lv_tableIn (tgt := 570) (off := 98) E.1 E.2.1 dX6_isTold_472 (by rw [hti]; decide) (by rw [hti]; decide) (by rw [hti]; rfl) (by decide) ?_
      refine lv_iconst (v := nI 1) E.1 E.2.1 dX6_isTold_570 rfl ?_
      exact hv_iretz (b := true) E hr hlocks hI (Nat.le_refl 0) rfl hw dX6_isTold_571
    replace hw := hw.2 c15
    by_cases c16 : x4 = nI 11
    · replace hw := hw.1 c16
      have hti : x4.toInt = 11 := by rw [c16]; decide
      refine lv_tableIn (tgt := 570) (off := 98) E.1 E.2.1 dX6_isTold_472 (by rw [hti]; decide) (by rw [hti]; decide) (by rw [hti]; rfl) (by decide) ?_
      refine lv_iconst (v := nI 1) E.1 E.2.1 dX6_isTold_570 rfl ?_
      exact hv_iretz (b := true) E hr hlocks hI (Nat.le_refl 0) rfl hw dX6_isTold_571
    replace hw := hw.2 c16
    by_cases c17 : x4 = nI 12
    · replace hw := hw.1 c17
      have hti : x4.toInt = 12 := by rw [c17]; decide
      refine lv_tableIn (tgt := 570) (off := 98) E.1 E.2.1 dX6_isTold_472 (by rw [hti]; decide) (by rw [hti]; decide) (by rw [hti]; rfl) (by decide) ?_
      refine lv_iconst (v := nI 1) E.1 E.2.1 dX6_isTold_570 rfl ?_
      exact hv_iretz (b := true) E hr hlocks hI (Nat.le_refl 0) rfl hw dX6_isTold_571
    replace hw := hw.2 c17
    by_cases c18 : x4 = nI 13
    · replace hw := hw.1 c18
      have hti : x4.toInt = 13 := by rw [c18]; decide
      refine lv_tableIn (tgt := 570) (off := 98) E.1 E.2.1 dX6_isTold_472 (by rw [hti]; decide) (by rw [hti]; decide) (by rw [hti]; rfl) (by decide) ?_
      refine lv_iconst (v := nI 1) E.1 E.2.1 dX6_isTold_570 rfl ?_
      exact hv_iretz (b := true) E hr hlocks hI (Nat.le_refl 0) rfl hw dX6_isTold_571
    replace hw := hw.2 c18
    by_cases c19 : x4 = nI 14
    · replace hw := hw.1 c19
      have hti : x4.toInt = 14 := by rw [c19]; decide
      refine lv_tableIn (tgt := 570) (off := 98) E.1 E.2.1 dX6_isTold_472 (by rw [hti]; decide) (by rw [hti]; decide) (by rw [hti]; rfl) (by decide) ?_
      refine lv_iconst (v := nI 1) E.1 E.2.1 dX6_isTold_570 rfl ?_
      exact hv_iretz (b := true) E hr hlocks hI (Nat.le_refl 0) rfl hw dX6_isTold_571
    replace hw := hw.2 c19
    by_cases c20 : x4 = nI 15
    · replace hw := hw.1 c20
      have hti : x4.toInt = 15 := by rw [c20]; decide
      refine lv_tableIn (tgt := 570) (off := 98) E.1 E.2.1 dX6_isTold_472 (by rw [hti]; decide) (by rw [hti]; decide) (by rw [hti]; rfl) (by decide) ?_
      refine lv_iconst (v := nI 1) E.1 E.2.1 dX6_isTold_570 rfl ?_
      exact hv_iretz (b := true) E hr hlocks hI (Nat.le_refl 0) rfl hw dX6_isTold_571
    replace hw := hw.2 c20
    by_cases c21 : x4 = nI 16
    · replace hw := hw.1 c21
      have hti : x4.toInt = 16 := by rw [c21]; decide
      refine lv_tableIn (tgt := 570) (off := 98) E.1 E.2.1 dX6_isTold_472 (by rw [hti]; decide) (by rw [hti]; decide) (by rw [hti]; rfl) (by decide) ?_
      refine lv_iconst (v := nI 1) E.1 E.2.1 dX6_isTold_570 rfl ?_
      exact hv_iretz (b := true) E hr hlocks hI (Nat.le_refl 0) rfl hw dX6_isTold_571
    replace hw := hw.2 c21
    by_cases c22 : x4 = nI 17
    · replace hw := hw.1 c22
      have hti : x4.toInt = 17 := by rw [c22]; decide
      refine lv_tableIn (tgt := 570) (off := 98) E.1 E.2.1 dX6_isTold_472 (by rw [hti]; decide) (by rw [hti]; decide) (by rw [hti]; rfl) (by decide) ?_
      refine lv_iconst (v := nI 1) E.1 E.2.1 dX6_isTold_570 rfl ?_
      exact hv_iretz (b := true) E hr hlocks hI (Nat.le_refl 0) rfl hw dX6_isTold_571
    replace hw := hw.2 c22
    by_cases c23 : x4 = nI 18
    · replace hw := hw.1 c23
      have hti : x4.toInt = 18 := by rw [c23]; decide
      refine lv_tableIn (tgt := 570) (off := 98) E.1 E.2.1 dX6_isTold_472 (by rw [hti]; decide) (by rw [hti]; decide) (by rw [hti]; rfl) (by decide) ?_
      refine lv_iconst (v := nI 1) E.1 E.2.1 dX6_isTold_570 rfl ?_
      exact hv_iretz (b := true) E hr hlocks hI (Nat.le_refl 0) rfl hw dX6_isTold_571
    replace hw := hw.2 c23
    by_cases c24 : x4 = nI 19
    · replace hw := hw.1 c24
      have hti : x4.toInt = 19 := by rw [c24]; decide
      refine lv_tableIn (tgt := 570) (off := 98) E.1 E.2.1 dX6_isTold_472 (by rw [hti]; decide) (by rw [hti]; decide) (by rw [hti]; rfl) (by decide) ?_
      refine lv_iconst (v := nI 1) E.1 E.2.1 dX6_isTold_570 rfl ?_
      exact hv_iretz (b := true) E hr hlocks hI (Nat.le_refl 0) rfl hw dX6_isTold_571
    replace hw := hw.2 c24
    refine lv_tableOut (tgt := 572) E.1 E.2.1 dX6_isTold_472 (tab_out (fun j h1 h2 h3 => ?_)) (by decide) ?_
    · have hj : j = 0 ∨ j = 1 ∨ j = 2 ∨ j = 3 ∨ j = 4 ∨ j = 5 ∨ j = 6 ∨ j = 7 ∨ j = 8 ∨ j = 9 ∨ j = 10 ∨ j = 11 ∨ j = 12 ∨ j = 13 ∨ j = 14 ∨ j = 15 ∨ j = 16 ∨ j = 17 ∨ j = 18 ∨ j = 19 := by omega
      rcases hj with rfl | rfl | rfl | rfl | rfl | rfl | rfl | rfl | rfl | rfl | rfl | rfl | rfl | rfl | rfl | rfl | rfl | rfl | rfl | rfl
      · exact c5 (Int32.toInt_inj.mp (by rw [h3]; decide))
      · exact c6 (Int32.toInt_inj.mp (by rw [h3]; decide))
      · exact c7 (Int32.toInt_inj.mp (by rw [h3]; decide))
      · exact c8 (Int32.toInt_inj.mp (by rw [h3]; decide))
      · exact c9 (Int32.toInt_inj.mp (by rw [h3]; decide))
      · exact c10 (Int32.toInt_inj.mp (by rw [h3]; decide))
      · exact c11 (Int32.toInt_inj.mp (by rw [h3]; decide))
      · exact c12 (Int32.toInt_inj.mp (by rw [h3]; decide))
      · exact c13 (Int32.toInt_inj.mp (by rw [h3]; decide))
      · exact c14 (Int32.toInt_inj.mp (by rw [h3]; decide))
      · exact c15 (Int32.toInt_inj.mp (by rw [h3]; decide))
      · exact c16 (Int32.toInt_inj.mp (by rw [h3]; decide))
      · exact c17 (Int32.toInt_inj.mp (by rw [h3]; decide))
      · exact c18 (Int32.toInt_inj.mp (by rw [h3]; decide))
      · exact c19 (Int32.toInt_inj.mp (by rw [h3]; decide))
      · exact c20 (Int32.toInt_inj.mp (by rw [h3]; decide))
      · exact c21 (Int32.toInt_inj.mp (by rw [h3]; decide))
      · exact c22 (Int32.toInt_inj.mp (by rw [h3]; decide))
      · exact c23 (Int32.toInt_inj.mp (by rw [h3]; decide))
      · exact c24 (Int32.toInt_inj.mp (by rw [h3]; decide))
    · skip
      refine lv_iconst (v := nI 0) E.1 E.2.1 dX6_isTold_572 rfl ?_
      exact hv_iretz (b := false) E hr hlocks hI (Nat.le_refl 0) rfl hw dX6_isTold_573
  refine hv_aload_n (r := p1) E.1 E.2.1 dX6_isTold_0 rfl (lv_at hl 1 rfl) ?_
  refine hv_astore_n (r := p1) (lv' := [(2, va_rf p1), (0, va_rf (some a0)), (1, va_rf p1)]) E.1 E.2.1 dX6_isTold_1 rfl hl (Nat.le_of_ble_eq_true rfl) (by first | rfl | decide | (simp [va_rf_cat, int_cat, long_cat]; done) | (simp [va_rf_cat, int_cat, long_cat]; decide)) (fun ls hl => ?_)
  refine lv_iconst (v := (-1)) E.1 E.2.1 dX6_isTold_2 rfl ?_
  refine lv_istore_n (lv' := [(3, .int ((-1))), (2, va_rf p1), (0, va_rf (some a0)), (1, va_rf p1)]) E.1 E.2.1 dX6_isTold_3 rfl hl (Nat.le_of_ble_eq_true rfl) (by first | rfl | decide | (simp [va_rf_cat, int_cat, long_cat]; done) | (simp [va_rf_cat, int_cat, long_cat]; decide)) (fun ls hl => ?_)
  refine hv_aload_n (r := p1) E.1 E.2.1 dX6_isTold_4 rfl (lv_at hl 1 rfl) ?_
  obtain ⟨a25, ea25, hw⟩ := hw
  revert hl hw; subst ea25; intro hl hw
  obtain ⟨⟨fs28, hrv⟩, hw⟩ := hw
  have hq := hw
  clear hw
  refine hv_calli (u := 0) (B1 := 0) hI (vx_runV (As := []) (rest := []) E (met_J5_hashCode l G (d) hq) (cwV 0 E.2.2.2.2 (lw_V q682 q683 q684 q132 q685) rfl rfl rfl hd_J5_hashCode (rm_ok (by omega) (by decide))) (hv_preV hK hI hrv rfl) rfl rfl hl.1 rfl (lv_room (by first | rfl | decide | (simp [va_rf_cat, int_cat, long_cat]; done) | (simp [va_rf_cat, int_cat, long_cat]; decide))) dX6_isTold_5 (hv_fit (by first | exact (Nat.le_refl 0) | omega))) (fun _ _ _ _ _ h => h.elim) (fun x27 y26 H locs hw hI => ?_)
  by_cases c29 : x27 = (-792929080)
  · replace hw := hw.1 c29
    have hti : x27.toInt = -792929080 := by rw [c29]; decide
    refine lv_lookup (tgt := 208) (off := 200) E.1 E.2.1 dX6_isTold_8 (by decide) (by rw [hti]; decide) (by decide) ?_
    refine hv_aload_n (r := some a25) E.1 E.2.1 dX6_isTold_208 rfl (lv_at hl 1 rfl) ?_
    refine hv_ldcS E hK 7 14 rfl dX6_isTold_209 ?_
    obtain ⟨⟨fs32, hrv⟩, hw⟩ := hw
    have hq := hw
    clear hw
    refine hv_callz (u := 0) (B1 := 0) hI (vx_runV (As := [va_rf (some (gK G 14))]) (rest := []) E (met_J5_equals l G (d + 2) hq) (cwV 1 E.2.2.2.2 (lw_V q736 q737 q738 q132 q739) rfl rfl rfl hd_J5_equals (rm_ok (by omega) (by decide))) (hv_preV hK hI hrv rfl) rfl rfl hl.1 rfl (lv_room (by first | rfl | decide | (simp [va_rf_cat, int_cat, long_cat]; done) | (simp [va_rf_cat, int_cat, long_cat]; decide))) dX6_isTold_211 (hv_fit (by first | exact (Nat.le_refl 0) | omega))) (fun _ _ _ _ _ h => h.elim) (fun b31 y30 H locs hw hI => ?_)
    refine lv_if_eq (tgt := 471) E.1 E.2.1 dX6_isTold_214 (by decide) (fun c33 => ?_) (fun c33 => ?_)
    · replace hw := hw.1 (bi_z c33)
      exact jh2 _ _ hw _ _ _ hI (lv_sub hl [0] rfl)
    · replace hw := hw.2 (bi_n c33)
      refine lv_iconst (v := nI 2) E.1 E.2.1 dX6_isTold_217 rfl ?_
      refine lv_istore_n (lv' := [(3, .int (nI 2)), (2, va_rf (some a25)), (0, va_rf (some a0)), (1, va_rf (some a25))]) E.1 E.2.1 dX6_isTold_218 rfl hl (Nat.le_of_ble_eq_true rfl) (by first | rfl | decide | (simp [va_rf_cat, int_cat, long_cat]; done) | (simp [va_rf_cat, int_cat, long_cat]; decide)) (fun ls hl => ?_)
      refine lv_goto (tgt := 471) E.1 E.2.1 dX6_isTold_219 (by decide) ?_
      exact jh2 _ _ hw _ _ _ hI (lv_sub hl [0] rfl)
  replace hw := hw.2 c29
  by_cases c34 : x27 = nI 3357
  · replace hw := hw.1 c34
    have hti : x27.toInt = 3357 := by rw [c34]; decide
    refine lv_lookup (tgt := 279) (off := 271) E.1 E.2.1 dX6_isTold_8 (by decide) (by rw [hti]; decide) (by decide) ?_
    refine hv_aload_n (r := some a25) E.1 E.2.1 dX6_isTold_279 rfl (lv_at hl 1 rfl) ?_
    refine hv_ldcS E hK 11 9 rfl dX6_isTold_280 ?_
    obtain ⟨⟨fs37, hrv⟩, hw⟩ := hw
    have hq := hw
    clear hw
    refine hv_callz (u := 0) (B1 := 0) hI (vx_runV (As := [va_rf (some (gK G 9))]) (rest := []) E (met_J5_equals l G (d + 2) hq) (cwV 1 E.2.2.2.2 (lw_V q736 q737 q738 q132 q739) rfl rfl rfl hd_J5_equals (rm_ok (by omega) (by decide))) (hv_preV hK hI hrv rfl) rfl rfl hl.1 rfl (lv_room (by first | rfl | decide | (simp [va_rf_cat, int_cat, long_cat]; done) | (simp [va_rf_cat, int_cat, long_cat]; decide))) dX6_isTold_282 (hv_fit (by first | exact (Nat.le_refl 0) | omega))) (fun _ _ _ _ _ h => h.elim) (fun b36 y35 H locs hw hI => ?_)
    refine lv_if_eq (tgt := 471) E.1 E.2.1 dX6_isTold_285 (by decide) (fun c38 => ?_) (fun c38 => ?_)
    · replace hw := hw.1 (bi_z c38)
      exact jh2 _ _ hw _ _ _ hI (lv_sub hl [0] rfl)
    · replace hw := hw.2 (bi_n c38)
      refine lv_bipush (v := nI 7) E.1 E.2.1 dX6_isTold_288 rfl ?_
      refine lv_istore_n (lv' := [(3, .int (nI 7)), (2, va_rf (some a25)), (0, va_rf (some a0)), (1, va_rf (some a25))]) E.1 E.2.1 dX6_isTold_290 rfl hl (Nat.le_of_ble_eq_true rfl) (by first | rfl | decide | (simp [va_rf_cat, int_cat, long_cat]; done) | (simp [va_rf_cat, int_cat, long_cat]; decide)) (fun ls hl => ?_)
      refine lv_goto (tgt := 471) E.1 E.2.1 dX6_isTold_291 (by decide) ?_
      exact jh2 _ _ hw _ _ _ hI (lv_sub hl [0] rfl)
  replace hw := hw.2 c34
  by_cases c39 : x27 = nI 3555
  · replace hw := hw.1 c39
    have hti : x27.toInt = 3555 := by rw [c39]; decide
    refine lv_lookup (tgt := 324) (off := 316) E.1 E.2.1 dX6_isTold_8 (by decide) (by rw [hti]; decide) (by decide) ?_
    refine hv_aload_n (r := some a25) E.1 E.2.1 dX6_isTold_324 rfl (lv_at hl 1 rfl) ?_
    refine hv_ldcS E hK 14 13 rfl dX6_isTold_325 ?_
    obtain ⟨⟨fs42, hrv⟩, hw⟩ := hw
    have hq := hw
    clear hw
    refine hv_callz (u := 0) (B1 := 0) hI (vx_runV (As := [va_rf (some (gK G 13))]) (rest := []) E (met_J5_equals l G (d + 2) hq) (cwV 1 E.2.2.2.2 (lw_V q736 q737 q738 q132 q739) rfl rfl rfl hd_J5_equals (rm_ok (by omega) (by decide))) (hv_preV hK hI hrv rfl) rfl rfl hl.1 rfl (lv_room (by first | rfl | decide | (simp [va_rf_cat, int_cat, long_cat]; done) | (simp [va_rf_cat, int_cat, long_cat]; decide))) dX6_isTold_327 (hv_fit (by first | exact (Nat.le_refl 0) | omega))) (fun _ _ _ _ _ h => h.elim) (fun b41 y40 H locs hw hI => ?_)
    refine lv_if_eq (tgt := 471) E.1 E.2.1 dX6_isTold_330 (by decide) (fun c43 => ?_) (fun c43 => ?_)
    · replace hw := hw.1 (bi_z c43)
      exact jh2 _ _ hw _ _ _ hI (lv_sub hl [0] rfl)
    · replace hw := hw.2 (bi_n c43)
      refine lv_bipush (v := nI 10) E.1 E.2.1 dX6_isTold_333 rfl ?_
      refine lv_istore_n (lv' := [(3, .int (nI 10)), (2, va_rf (some a25)), (0, va_rf (some a0)), (1, va_rf (some a25))]) E.1 E.2.1 dX6_isTold_335 rfl hl (Nat.le_of_ble_eq_true rfl) (by first | rfl | decide | (simp [va_rf_cat, int_cat, long_cat]; done) | (simp [va_rf_cat, int_cat, long_cat]; decide)) (fun ls hl => ?_)
      refine lv_goto (tgt := 471) E.1 E.2.1 dX6_isTold_336 (by decide) ?_
      exact jh2 _ _ hw _ _ _ hI (lv_sub hl [0] rfl)
  replace hw := hw.2 c39
  by_cases c44 : x27 = nI 3707
  · replace hw := hw.1 c44
    have hti : x27.toInt = 3707 := by rw [c44]; decide
    refine lv_lookup (tgt := 236) (off := 228) E.1 E.2.1 dX6_isTold_8 (by decide) (by rw [hti]; decide) (by decide) ?_
    refine hv_aload_n (r := some a25) E.1 E.2.1 dX6_isTold_236 rfl (lv_at hl 1 rfl) ?_
    refine hv_ldcS E hK 4 17 rfl dX6_isTold_237 ?_
    obtain ⟨⟨fs47, hrv⟩, hw⟩ := hw
    have hq := hw
    clear hw
    refine hv_callz (u := 0) (B1 := 0) hI (vx_runV (As := [va_rf (some (gK G 17))]) (rest := []) E (met_J5_equals l G (d + 2) hq) (cwV 1 E.2.2.2.2 (lw_V q736 q737 q738 q132 q739) rfl rfl rfl hd_J5_equals (rm_ok (by omega) (by decide))) (hv_preV hK hI hrv rfl) rfl rfl hl.1 rfl (lv_room (by first | rfl | decide | (simp [va_rf_cat, int_cat, long_cat]; done) | (simp [va_rf_cat, int_cat, long_cat]; decide))) dX6_isTold_239 (hv_fit (by first | exact (Nat.le_refl 0) | omega))) (fun _ _ _ _ _ h => h.elim) (fun b46 y45 H locs hw hI => ?_)
    refine lv_if_eq (tgt := 471) E.1 E.2.1 dX6_isTold_242 (by decide) (fun c48 => ?_) (fun c48 => ?_)
    · replace hw := hw.1 (bi_z c48)
      exact jh2 _ _ hw _ _ _ hI (lv_sub hl [0] rfl)
    · replace hw := hw.2 (bi_n c48)
      refine lv_iconst (v := nI 4) E.1 E.2.1 dX6_isTold_245 rfl ?_
      refine lv_istore_n (lv' := [(3, .int (nI 4)), (2, va_rf (some a25)), (0, va_rf (some a0)), (1, va_rf (some a25))]) E.1 E.2.1 dX6_isTold_246 rfl hl (Nat.le_of_ble_eq_true rfl) (by first | rfl | decide | (simp [va_rf_cat, int_cat, long_cat]; done) | (simp [va_rf_cat, int_cat, long_cat]; decide)) (fun ls hl => ?_)
      refine lv_goto (tgt := 471) E.1 E.2.1 dX6_isTold_247 (by decide) ?_
      exact jh2 _ _ hw _ _ _ hI (lv_sub hl [0] rfl)
  replace hw := hw.2 c44
  by_cases c49 : x27 = nI 96511
  · replace hw := hw.1 c49
    have hti : x27.toInt = 96511 := by rw [c49]; decide
    refine lv_lookup (tgt := 414) (off := 406) E.1 E.2.1 dX6_isTold_8 (by decide) (by rw [hti]; decide) (by decide) ?_
    refine hv_aload_n (r := some a25) E.1 E.2.1 dX6_isTold_414 rfl (lv_at hl 1 rfl) ?_
    refine hv_ldcS E hK 20 0 rfl dX6_isTold_415 ?_
    obtain ⟨⟨fs52, hrv⟩, hw⟩ := hw
    have hq := hw
    clear hw
    refine hv_callz (u := 0) (B1 := 0) hI (vx_runV (As := [va_rf (some (gK G 0))]) (rest := []) E (met_J5_equals l G (d + 2) hq) (cwV 1 E.2.2.2.2 (lw_V q736 q737 q738 q132 q739) rfl rfl rfl hd_J5_equals (rm_ok (by omega) (by decide))) (hv_preV hK hI hrv rfl) rfl rfl hl.1 rfl (lv_room (by first | rfl | decide | (simp [va_rf_cat, int_cat, long_cat]; done) | (simp [va_rf_cat, int_cat, long_cat]; decide))) dX6_isTold_417 (hv_fit (by first | exact (Nat.le_refl 0) | omega))) (fun _ _ _ _ _ h => h.elim) (fun b51 y50 H locs hw hI => ?_)
    refine lv_if_eq (tgt := 471) E.1 E.2.1 dX6_isTold_420 (by decide) (fun c53 => ?_) (fun c53 => ?_)
    · replace hw := hw.1 (bi_z c53)
      exact jh2 _ _ hw _ _ _ hI (lv_sub hl [0] rfl)
    · replace hw := hw.2 (bi_n c53)
      refine lv_bipush (v := nI 16) E.1 E.2.1 dX6_isTold_423 rfl ?_
      refine lv_istore_n (lv' := [(3, .int (nI 16)), (2, va_rf (some a25)), (0, va_rf (some a0)), (1, va_rf (some a25))]) E.1 E.2.1 dX6_isTold_425 rfl hl (Nat.le_of_ble_eq_true rfl) (by first | rfl | decide | (simp [va_rf_cat, int_cat, long_cat]; done) | (simp [va_rf_cat, int_cat, long_cat]; decide)) (fun ls hl => ?_)
      refine lv_goto (tgt := 471) E.1 E.2.1 dX6_isTold_426 (by decide) ?_
      exact jh2 _ _ hw _ _ _ hI (lv_sub hl [0] rfl)
  replace hw := hw.2 c49
  by_cases c54 : x27 = nI 96727
  · replace hw := hw.1 c54
    have hti : x27.toInt = 96727 := by rw [c54]; decide
    refine lv_lookup (tgt := 339) (off := 331) E.1 E.2.1 dX6_isTold_8 (by decide) (by rw [hti]; decide) (by decide) ?_
    refine hv_aload_n (r := some a25) E.1 E.2.1 dX6_isTold_339 rfl (lv_at hl 1 rfl) ?_
    refine hv_ldcS E hK 15 1 rfl dX6_isTold_340 ?_
    obtain ⟨⟨fs57, hrv⟩, hw⟩ := hw
    have hq := hw
    clear hw
    refine hv_callz (u := 0) (B1 := 0) hI (vx_runV (As := [va_rf (some (gK G 1))]) (rest := []) E (met_J5_equals l G (d + 2) hq) (cwV 1 E.2.2.2.2 (lw_V q736 q737 q738 q132 q739) rfl rfl rfl hd_J5_equals (rm_ok (by omega) (by decide))) (hv_preV hK hI hrv rfl) rfl rfl hl.1 rfl (lv_room (by first | rfl | decide | (simp [va_rf_cat, int_cat, long_cat]; done) | (simp [va_rf_cat, int_cat, long_cat]; decide))) dX6_isTold_342 (hv_fit (by first | exact (Nat.le_refl 0) | omega))) (fun _ _ _ _ _ h => h.elim) (fun b56 y55 H locs hw hI => ?_)
    refine lv_if_eq (tgt := 471) E.1 E.2.1 dX6_isTold_345 (by decide) (fun c58 => ?_) (fun c58 => ?_)
    · replace hw := hw.1 (bi_z c58)
      exact jh2 _ _ hw _ _ _ hI (lv_sub hl [0] rfl)
    · replace hw := hw.2 (bi_n c58)
      refine lv_bipush (v := nI 11) E.1 E.2.1 dX6_isTold_348 rfl ?_
      refine lv_istore_n (lv' := [(3, .int (nI 11)), (2, va_rf (some a25)), (0, va_rf (some a0)), (1, va_rf (some a25))]) E.1 E.2.1 dX6_isTold_350 rfl hl (Nat.le_of_ble_eq_true rfl) (by first | rfl | decide | (simp [va_rf_cat, int_cat, long_cat]; done) | (simp [va_rf_cat, int_cat, long_cat]; decide)) (fun ls hl => ?_)
      refine lv_goto (tgt := 471) E.1 E.2.1 dX6_isTold_351 (by decide) ?_
      exact jh2 _ _ hw _ _ _ hI (lv_sub hl [0] rfl)
  replace hw := hw.2 c54
  by_cases c59 : x27 = nI 97921
  · replace hw := hw.1 c59
    have hti : x27.toInt = 97921 := by rw [c59]; decide
    refine lv_lookup (tgt := 250) (off := 242) E.1 E.2.1 dX6_isTold_8 (by decide) (by rw [hti]; decide) (by decide) ?_
    refine hv_aload_n (r := some a25) E.1 E.2.1 dX6_isTold_250 rfl (lv_at hl 1 rfl) ?_
    refine hv_ldcS E hK 9 2 rfl dX6_isTold_251 ?_
    obtain ⟨⟨fs62, hrv⟩, hw⟩ := hw
    have hq := hw
    clear hw
    refine hv_callz (u := 0) (B1 := 0) hI (vx_runV (As := [va_rf (some (gK G 2))]) (rest := []) E (met_J5_equals l G (d + 2) hq) (cwV 1 E.2.2.2.2 (lw_V q736 q737 q738 q132 q739) rfl rfl rfl hd_J5_equals (rm_ok (by omega) (by decide))) (hv_preV hK hI hrv rfl) rfl rfl hl.1 rfl (lv_room (by first | rfl | decide | (simp [va_rf_cat, int_cat, long_cat]; done) | (simp [va_rf_cat, int_cat, long_cat]; decide))) dX6_isTold_253 (hv_fit (by first | exact (Nat.le_refl 0) | omega))) (fun _ _ _ _ _ h => h.elim) (fun b61 y60 H locs hw hI => ?_)
    refine lv_if_eq (tgt := 471) E.1 E.2.1 dX6_isTold_256 (by decide) (fun c63 => ?_) (fun c63 => ?_)
    · replace hw := hw.1 (bi_z c63)
      exact jh2 _ _ hw _ _ _ hI (lv_sub hl [0] rfl)
    · replace hw := hw.2 (bi_n c63)
      refine lv_iconst (v := nI 5) E.1 E.2.1 dX6_isTold_259 rfl ?_
      refine lv_istore_n (lv' := [(3, .int (nI 5)), (2, va_rf (some a25)), (0, va_rf (some a0)), (1, va_rf (some a25))]) E.1 E.2.1 dX6_isTold_260 rfl hl (Nat.le_of_ble_eq_true rfl) (by first | rfl | decide | (simp [va_rf_cat, int_cat, long_cat]; done) | (simp [va_rf_cat, int_cat, long_cat]; decide)) (fun ls hl => ?_)
      refine lv_goto (tgt := 471) E.1 E.2.1 dX6_isTold_261 (by decide) ?_
      exact jh2 _ _ hw _ _ _ hI (lv_sub hl [0] rfl)
  replace hw := hw.2 c59
  by_cases c64 : x27 = nI 99455
  · replace hw := hw.1 c64
    have hti : x27.toInt = 99455 := by rw [c64]; decide
    refine lv_lookup (tgt := 399) (off := 391) E.1 E.2.1 dX6_isTold_8 (by decide) (by rw [hti]; decide) (by decide) ?_
    refine hv_aload_n (r := some a25) E.1 E.2.1 dX6_isTold_399 rfl (lv_at hl 1 rfl) ?_
    refine hv_ldcS E hK 19 6 rfl dX6_isTold_400 ?_
    obtain ⟨⟨fs67, hrv⟩, hw⟩ := hw
    have hq := hw
    clear hw
    refine hv_callz (u := 0) (B1 := 0) hI (vx_runV (As := [va_rf (some (gK G 6))]) (rest := []) E (met_J5_equals l G (d + 2) hq) (cwV 1 E.2.2.2.2 (lw_V q736 q737 q738 q132 q739) rfl rfl rfl hd_J5_equals (rm_ok (by omega) (by decide))) (hv_preV hK hI hrv rfl) rfl rfl hl.1 rfl (lv_room (by first | rfl | decide | (simp [va_rf_cat, int_cat, long_cat]; done) | (simp [va_rf_cat, int_cat, long_cat]; decide))) dX6_isTold_402 (hv_fit (by first | exact (Nat.le_refl 0) | omega))) (fun _ _ _ _ _ h => h.elim) (fun b66 y65 H locs hw hI => ?_)
    refine lv_if_eq (tgt := 471) E.1 E.2.1 dX6_isTold_405 (by decide) (fun c68 => ?_) (fun c68 => ?_)
    · replace hw := hw.1 (bi_z c68)
      exact jh2 _ _ hw _ _ _ hI (lv_sub hl [0] rfl)
    · replace hw := hw.2 (bi_n c68)
      refine lv_bipush (v := nI 15) E.1 E.2.1 dX6_isTold_408 rfl ?_
      refine lv_istore_n (lv' := [(3, .int (nI 15)), (2, va_rf (some a25)), (0, va_rf (some a0)), (1, va_rf (some a25))]) E.1 E.2.1 dX6_isTold_410 rfl hl (Nat.le_of_ble_eq_true rfl) (by first | rfl | decide | (simp [va_rf_cat, int_cat, long_cat]; done) | (simp [va_rf_cat, int_cat, long_cat]; decide)) (fun ls hl => ?_)
      refine lv_goto (tgt := 471) E.1 E.2.1 dX6_isTold_411 (by decide) ?_
      exact jh2 _ _ hw _ _ _ hI (lv_sub hl [0] rfl)
  replace hw := hw.2 c64
  by_cases c69 : x27 = nI 103066
  · replace hw := hw.1 c69
    have hti : x27.toInt = 103066 := by rw [c69]; decide
    refine lv_lookup (tgt := 369) (off := 361) E.1 E.2.1 dX6_isTold_8 (by decide) (by rw [hti]; decide) (by decide) ?_
    refine hv_aload_n (r := some a25) E.1 E.2.1 dX6_isTold_369 rfl (lv_at hl 1 rfl) ?_
    refine hv_ldcS E hK 17 8 rfl dX6_isTold_370 ?_
    obtain ⟨⟨fs72, hrv⟩, hw⟩ := hw
    have hq := hw
    clear hw
    refine hv_callz (u := 0) (B1 := 0) hI (vx_runV (As := [va_rf (some (gK G 8))]) (rest := []) E (met_J5_equals l G (d + 2) hq) (cwV 1 E.2.2.2.2 (lw_V q736 q737 q738 q132 q739) rfl rfl rfl hd_J5_equals (rm_ok (by omega) (by decide))) (hv_preV hK hI hrv rfl) rfl rfl hl.1 rfl (lv_room (by first | rfl | decide | (simp [va_rf_cat, int_cat, long_cat]; done) | (simp [va_rf_cat, int_cat, long_cat]; decide))) dX6_isTold_372 (hv_fit (by first | exact (Nat.le_refl 0) | omega))) (fun _ _ _ _ _ h => h.elim) (fun b71 y70 H locs hw hI => ?_)
    refine lv_if_eq (tgt := 471) E.1 E.2.1 dX6_isTold_375 (by decide) (fun c73 => ?_) (fun c73 => ?_)
    · replace hw := hw.1 (bi_z c73)
      exact jh2 _ _ hw _ _ _ hI (lv_sub hl [0] rfl)
    · replace hw := hw.2 (bi_n c73)
      refine lv_bipush (v := nI 13) E.1 E.2.1 dX6_isTold_378 rfl ?_
      refine lv_istore_n (lv' := [(3, .int (nI 13)), (2, va_rf (some a25)), (0, va_rf (some a0)), (1, va_rf (some a25))]) E.1 E.2.1 dX6_isTold_380 rfl hl (Nat.le_of_ble_eq_true rfl) (by first | rfl | decide | (simp [va_rf_cat, int_cat, long_cat]; done) | (simp [va_rf_cat, int_cat, long_cat]; decide)) (fun ls hl => ?_)
      refine lv_goto (tgt := 471) E.1 E.2.1 dX6_isTold_381 (by decide) ?_
      exact jh2 _ _ hw _ _ _ hI (lv_sub hl [0] rfl)
  replace hw := hw.2 c69
  by_cases c74 : x27 = nI 109267
  · replace hw := hw.1 c74
    have hti : x27.toInt = 109267 := by rw [c74]; decide
    refine lv_lookup (tgt := 354) (off := 346) E.1 E.2.1 dX6_isTold_8 (by decide) (by rw [hti]; decide) (by decide) ?_
    refine hv_aload_n (r := some a25) E.1 E.2.1 dX6_isTold_354 rfl (lv_at hl 1 rfl) ?_
    refine hv_ldcS E hK 16 12 rfl dX6_isTold_355 ?_
    obtain ⟨⟨fs77, hrv⟩, hw⟩ := hw
    have hq := hw
    clear hw
    refine hv_callz (u := 0) (B1 := 0) hI (vx_runV (As := [va_rf (some (gK G 12))]) (rest := []) E (met_J5_equals l G (d + 2) hq) (cwV 1 E.2.2.2.2 (lw_V q736 q737 q738 q132 q739) rfl rfl rfl hd_J5_equals (rm_ok (by omega) (by decide))) (hv_preV hK hI hrv rfl) rfl rfl hl.1 rfl (lv_room (by first | rfl | decide | (simp [va_rf_cat, int_cat, long_cat]; done) | (simp [va_rf_cat, int_cat, long_cat]; decide))) dX6_isTold_357 (hv_fit (by first | exact (Nat.le_refl 0) | omega))) (fun _ _ _ _ _ h => h.elim) (fun b76 y75 H locs hw hI => ?_)
    refine lv_if_eq (tgt := 471) E.1 E.2.1 dX6_isTold_360 (by decide) (fun c78 => ?_) (fun c78 => ?_)
    · replace hw := hw.1 (bi_z c78)
      exact jh2 _ _ hw _ _ _ hI (lv_sub hl [0] rfl)
    · replace hw := hw.2 (bi_n c78)
      refine lv_bipush (v := nI 12) E.1 E.2.1 dX6_isTold_363 rfl ?_
      refine lv_istore_n (lv' := [(3, .int (nI 12)), (2, va_rf (some a25)), (0, va_rf (some a0)), (1, va_rf (some a25))]) E.1 E.2.1 dX6_isTold_365 rfl hl (Nat.le_of_ble_eq_true rfl) (by first | rfl | decide | (simp [va_rf_cat, int_cat, long_cat]; done) | (simp [va_rf_cat, int_cat, long_cat]; decide)) (fun ls hl => ?_)
      refine lv_goto (tgt := 471) E.1 E.2.1 dX6_isTold_366 (by decide) ?_
      exact jh2 _ _ hw _ _ _ hI (lv_sub hl [0] rfl)
  replace hw := hw.2 c74
  by_cases c79 : x27 = nI 115029
  · replace hw := hw.1 c79
    have hti : x27.toInt = 115029 := by rw [c79]; decide
    refine lv_lookup (tgt := 459) (off := 451) E.1 E.2.1 dX6_isTold_8 (by decide) (by rw [hti]; decide) (by decide) ?_
    refine hv_aload_n (r := some a25) E.1 E.2.1 dX6_isTold_459 rfl (lv_at hl 1 rfl) ?_
    refine hv_ldcS E hK 23 18 rfl dX6_isTold_460 ?_
    obtain ⟨⟨fs82, hrv⟩, hw⟩ := hw
    have hq := hw
    clear hw
    refine hv_callz (u := 0) (B1 := 0) hI (vx_runV (As := [va_rf (some (gK G 18))]) (rest := []) E (met_J5_equals l G (d + 2) hq) (cwV 1 E.2.2.2.2 (lw_V q736 q737 q738 q132 q739) rfl rfl rfl hd_J5_equals (rm_ok (by omega) (by decide))) (hv_preV hK hI hrv rfl) rfl rfl hl.1 rfl (lv_room (by first | rfl | decide | (simp [va_rf_cat, int_cat, long_cat]; done) | (simp [va_rf_cat, int_cat, long_cat]; decide))) dX6_isTold_462 (hv_fit (by first | exact (Nat.le_refl 0) | omega))) (fun _ _ _ _ _ h => h.elim) (fun b81 y80 H locs hw hI => ?_)
    refine lv_if_eq (tgt := 471) E.1 E.2.1 dX6_isTold_465 (by decide) (fun c83 => ?_) (fun c83 => ?_)
    · replace hw := hw.1 (bi_z c83)
      exact jh2 _ _ hw _ _ _ hI (lv_sub hl [0] rfl)
    · replace hw := hw.2 (bi_n c83)
      refine lv_bipush (v := nI 19) E.1 E.2.1 dX6_isTold_468 rfl ?_
      refine lv_istore_n (lv' := [(3, .int (nI 19)), (2, va_rf (some a25)), (0, va_rf (some a0)), (1, va_rf (some a25))]) E.1 E.2.1 dX6_isTold_470 rfl hl (Nat.le_of_ble_eq_true rfl) (by first | rfl | decide | (simp [va_rf_cat, int_cat, long_cat]; done) | (simp [va_rf_cat, int_cat, long_cat]; decide)) (fun ls hl => ?_)
      exact jh2 _ _ hw _ _ _ hI (lv_sub hl [0] rfl)
  replace hw := hw.2 c79
  by_cases c84 : x27 = nI 3076183
  · replace hw := hw.1 c84
    have hti : x27.toInt = 3076183 := by rw [c84]; decide
    refine lv_lookup (tgt := 429) (off := 421) E.1 E.2.1 dX6_isTold_8 (by decide) (by rw [hti]; decide) (by decide) ?_
    refine hv_aload_n (r := some a25) E.1 E.2.1 dX6_isTold_429 rfl (lv_at hl 1 rfl) ?_
    refine hv_ldcS E hK 21 5 rfl dX6_isTold_430 ?_
    obtain ⟨⟨fs87, hrv⟩, hw⟩ := hw
    have hq := hw
    clear hw
    refine hv_callz (u := 0) (B1 := 0) hI (vx_runV (As := [va_rf (some (gK G 5))]) (rest := []) E (met_J5_equals l G (d + 2) hq) (cwV 1 E.2.2.2.2 (lw_V q736 q737 q738 q132 q739) rfl rfl rfl hd_J5_equals (rm_ok (by omega) (by decide))) (hv_preV hK hI hrv rfl) rfl rfl hl.1 rfl (lv_room (by first | rfl | decide | (simp [va_rf_cat, int_cat, long_cat]; done) | (simp [va_rf_cat, int_cat, long_cat]; decide))) dX6_isTold_432 (hv_fit (by first | exact (Nat.le_refl 0) | omega))) (fun _ _ _ _ _ h => h.elim) (fun b86 y85 H locs hw hI => ?_)
    refine lv_if_eq (tgt := 471) E.1 E.2.1 dX6_isTold_435 (by decide) (fun c88 => ?_) (fun c88 => ?_)
    · replace hw := hw.1 (bi_z c88)
      exact jh2 _ _ hw _ _ _ hI (lv_sub hl [0] rfl)
    · replace hw := hw.2 (bi_n c88)
      refine lv_bipush (v := nI 17) E.1 E.2.1 dX6_isTold_438 rfl ?_
      refine lv_istore_n (lv' := [(3, .int (nI 17)), (2, va_rf (some a25)), (0, va_rf (some a0)), (1, va_rf (some a25))]) E.1 E.2.1 dX6_isTold_440 rfl hl (Nat.le_of_ble_eq_true rfl) (by first | rfl | decide | (simp [va_rf_cat, int_cat, long_cat]; done) | (simp [va_rf_cat, int_cat, long_cat]; decide)) (fun ls hl => ?_)
      refine lv_goto (tgt := 471) E.1 E.2.1 dX6_isTold_441 (by decide) ?_
      exact jh2 _ _ hw _ _ _ hI (lv_sub hl [0] rfl)
  replace hw := hw.2 c84
  by_cases c89 : x27 = nI 3116345
  · replace hw := hw.1 c89
    have hti : x27.toInt = 3116345 := by rw [c89]; decide
    refine lv_lookup (tgt := 309) (off := 301) E.1 E.2.1 dX6_isTold_8 (by decide) (by rw [hti]; decide) (by decide) ?_
    refine hv_aload_n (r := some a25) E.1 E.2.1 dX6_isTold_309 rfl (lv_at hl 1 rfl) ?_
    refine hv_ldcS E hK 13 7 rfl dX6_isTold_310 ?_
    obtain ⟨⟨fs92, hrv⟩, hw⟩ := hw
    have hq := hw
    clear hw
    refine hv_callz (u := 0) (B1 := 0) hI (vx_runV (As := [va_rf (some (gK G 7))]) (rest := []) E (met_J5_equals l G (d + 2) hq) (cwV 1 E.2.2.2.2 (lw_V q736 q737 q738 q132 q739) rfl rfl rfl hd_J5_equals (rm_ok (by omega) (by decide))) (hv_preV hK hI hrv rfl) rfl rfl hl.1 rfl (lv_room (by first | rfl | decide | (simp [va_rf_cat, int_cat, long_cat]; done) | (simp [va_rf_cat, int_cat, long_cat]; decide))) dX6_isTold_312 (hv_fit (by first | exact (Nat.le_refl 0) | omega))) (fun _ _ _ _ _ h => h.elim) (fun b91 y90 H locs hw hI => ?_)
    refine lv_if_eq (tgt := 471) E.1 E.2.1 dX6_isTold_315 (by decide) (fun c93 => ?_) (fun c93 => ?_)
    · replace hw := hw.1 (bi_z c93)
      exact jh2 _ _ hw _ _ _ hI (lv_sub hl [0] rfl)
    · replace hw := hw.2 (bi_n c93)
      refine lv_bipush (v := nI 9) E.1 E.2.1 dX6_isTold_318 rfl ?_
      refine lv_istore_n (lv' := [(3, .int (nI 9)), (2, va_rf (some a25)), (0, va_rf (some a0)), (1, va_rf (some a25))]) E.1 E.2.1 dX6_isTold_320 rfl hl (Nat.le_of_ble_eq_true rfl) (by first | rfl | decide | (simp [va_rf_cat, int_cat, long_cat]; done) | (simp [va_rf_cat, int_cat, long_cat]; decide)) (fun ls hl => ?_)
      refine lv_goto (tgt := 471) E.1 E.2.1 dX6_isTold_321 (by decide) ?_
      exact jh2 _ _ hw _ _ _ hI (lv_sub hl [0] rfl)
  replace hw := hw.2 c89
  by_cases c94 : x27 = nI 3343801
  · replace hw := hw.1 c94
    have hti : x27.toInt = 3343801 := by rw [c94]; decide
    refine lv_lookup (tgt := 384) (off := 376) E.1 E.2.1 dX6_isTold_8 (by decide) (by rw [hti]; decide) (by decide) ?_
    refine hv_aload_n (r := some a25) E.1 E.2.1 dX6_isTold_384 rfl (lv_at hl 1 rfl) ?_
    refine hv_ldcS E hK 18 11 rfl dX6_isTold_385 ?_
    obtain ⟨⟨fs97, hrv⟩, hw⟩ := hw
    have hq := hw
    clear hw
    refine hv_callz (u := 0) (B1 := 0) hI (vx_runV (As := [va_rf (some (gK G 11))]) (rest := []) E (met_J5_equals l G (d + 2) hq) (cwV 1 E.2.2.2.2 (lw_V q736 q737 q738 q132 q739) rfl rfl rfl hd_J5_equals (rm_ok (by omega) (by decide))) (hv_preV hK hI hrv rfl) rfl rfl hl.1 rfl (lv_room (by first | rfl | decide | (simp [va_rf_cat, int_cat, long_cat]; done) | (simp [va_rf_cat, int_cat, long_cat]; decide))) dX6_isTold_387 (hv_fit (by first | exact (Nat.le_refl 0) | omega))) (fun _ _ _ _ _ h => h.elim) (fun b96 y95 H locs hw hI => ?_)
    refine lv_if_eq (tgt := 471) E.1 E.2.1 dX6_isTold_390 (by decide) (fun c98 => ?_) (fun c98 => ?_)
    · replace hw := hw.1 (bi_z c98)
      exact jh2 _ _ hw _ _ _ hI (lv_sub hl [0] rfl)
    · replace hw := hw.2 (bi_n c98)
      refine lv_bipush (v := nI 14) E.1 E.2.1 dX6_isTold_393 rfl ?_
      refine lv_istore_n (lv' := [(3, .int (nI 14)), (2, va_rf (some a25)), (0, va_rf (some a0)), (1, va_rf (some a25))]) E.1 E.2.1 dX6_isTold_395 rfl hl (Nat.le_of_ble_eq_true rfl) (by first | rfl | decide | (simp [va_rf_cat, int_cat, long_cat]; done) | (simp [va_rf_cat, int_cat, long_cat]; decide)) (fun ls hl => ?_)
      refine lv_goto (tgt := 471) E.1 E.2.1 dX6_isTold_396 (by decide) ?_
      exact jh2 _ _ hw _ _ _ hI (lv_sub hl [0] rfl)
  replace hw := hw.2 c94
  by_cases c99 : x27 = nI 3492908
  · replace hw := hw.1 c99
    have hti : x27.toInt = 3492908 := by rw [c99]; decide
    refine lv_lookup (tgt := 194) (off := 186) E.1 E.2.1 dX6_isTold_8 (by decide) (by rw [hti]; decide) (by decide) ?_
    refine hv_aload_n (r := some a25) E.1 E.2.1 dX6_isTold_194 rfl (lv_at hl 1 rfl) ?_
    refine hv_ldcS E hK 6 15 rfl dX6_isTold_195 ?_
    obtain ⟨⟨fs102, hrv⟩, hw⟩ := hw
    have hq := hw
    clear hw
    refine hv_callz (u := 0) (B1 := 0) hI (vx_runV (As := [va_rf (some (gK G 15))]) (rest := []) E (met_J5_equals l G (d + 2) hq) (cwV 1 E.2.2.2.2 (lw_V q736 q737 q738 q132 q739) rfl rfl rfl hd_J5_equals (rm_ok (by omega) (by decide))) (hv_preV hK hI hrv rfl) rfl rfl hl.1 rfl (lv_room (by first | rfl | decide | (simp [va_rf_cat, int_cat, long_cat]; done) | (simp [va_rf_cat, int_cat, long_cat]; decide))) dX6_isTold_197 (hv_fit (by first | exact (Nat.le_refl 0) | omega))) (fun _ _ _ _ _ h => h.elim) (fun b101 y100 H locs hw hI => ?_)
    refine lv_if_eq (tgt := 471) E.1 E.2.1 dX6_isTold_200 (by decide) (fun c103 => ?_) (fun c103 => ?_)
    · replace hw := hw.1 (bi_z c103)
      exact jh2 _ _ hw _ _ _ hI (lv_sub hl [0] rfl)
    · replace hw := hw.2 (bi_n c103)
      refine lv_iconst (v := nI 1) E.1 E.2.1 dX6_isTold_203 rfl ?_
      refine lv_istore_n (lv' := [(3, .int (nI 1)), (2, va_rf (some a25)), (0, va_rf (some a0)), (1, va_rf (some a25))]) E.1 E.2.1 dX6_isTold_204 rfl hl (Nat.le_of_ble_eq_true rfl) (by first | rfl | decide | (simp [va_rf_cat, int_cat, long_cat]; done) | (simp [va_rf_cat, int_cat, long_cat]; decide)) (fun ls hl => ?_)
      refine lv_goto (tgt := 471) E.1 E.2.1 dX6_isTold_205 (by decide) ?_
      exact jh2 _ _ hw _ _ _ hI (lv_sub hl [0] rfl)
  replace hw := hw.2 c99
  by_cases c104 : x27 = nI 3558941
  · replace hw := hw.1 c104
    have hti : x27.toInt = 3558941 := by rw [c104]; decide
    refine lv_lookup (tgt := 294) (off := 286) E.1 E.2.1 dX6_isTold_8 (by decide) (by rw [hti]; decide) (by decide) ?_
    refine hv_aload_n (r := some a25) E.1 E.2.1 dX6_isTold_294 rfl (lv_at hl 1 rfl) ?_
    refine hv_ldcS E hK 12 16 rfl dX6_isTold_295 ?_
    obtain ⟨⟨fs107, hrv⟩, hw⟩ := hw
    have hq := hw
    clear hw
    refine hv_callz (u := 0) (B1 := 0) hI (vx_runV (As := [va_rf (some (gK G 16))]) (rest := []) E (met_J5_equals l G (d + 2) hq) (cwV 1 E.2.2.2.2 (lw_V q736 q737 q738 q132 q739) rfl rfl rfl hd_J5_equals (rm_ok (by omega) (by decide))) (hv_preV hK hI hrv rfl) rfl rfl hl.1 rfl (lv_room (by first | rfl | decide | (simp [va_rf_cat, int_cat, long_cat]; done) | (simp [va_rf_cat, int_cat, long_cat]; decide))) dX6_isTold_297 (hv_fit (by first | exact (Nat.le_refl 0) | omega))) (fun _ _ _ _ _ h => h.elim) (fun b106 y105 H locs hw hI => ?_)
    refine lv_if_eq (tgt := 471) E.1 E.2.1 dX6_isTold_300 (by decide) (fun c108 => ?_) (fun c108 => ?_)
    · replace hw := hw.1 (bi_z c108)
      exact jh2 _ _ hw _ _ _ hI (lv_sub hl [0] rfl)
    · replace hw := hw.2 (bi_n c108)
      refine lv_bipush (v := nI 8) E.1 E.2.1 dX6_isTold_303 rfl ?_
      refine lv_istore_n (lv' := [(3, .int (nI 8)), (2, va_rf (some a25)), (0, va_rf (some a0)), (1, va_rf (some a25))]) E.1 E.2.1 dX6_isTold_305 rfl hl (Nat.le_of_ble_eq_true rfl) (by first | rfl | decide | (simp [va_rf_cat, int_cat, long_cat]; done) | (simp [va_rf_cat, int_cat, long_cat]; decide)) (fun ls hl => ?_)
      refine lv_goto (tgt := 471) E.1 E.2.1 dX6_isTold_306 (by decide) ?_
      exact jh2 _ _ hw _ _ _ hI (lv_sub hl [0] rfl)
  replace hw := hw.2 c104
  by_cases c109 : x27 = nI 3568542
  · replace hw := hw.1 c109
    have hti : x27.toInt = 3568542 := by rw [c109]; decide
    refine lv_lookup (tgt := 222) (off := 214) E.1 E.2.1 dX6_isTold_8 (by decide) (by rw [hti]; decide) (by decide) ?_
    refine hv_aload_n (r := some a25) E.1 E.2.1 dX6_isTold_222 rfl (lv_at hl 1 rfl) ?_
    refine hv_ldcS E hK 8 19 rfl dX6_isTold_223 ?_
    obtain ⟨⟨fs112, hrv⟩, hw⟩ := hw
    have hq := hw
    clear hw
    refine hv_callz (u := 0) (B1 := 0) hI (vx_runV (As := [va_rf (some (gK G 19))]) (rest := []) E (met_J5_equals l G (d + 2) hq) (cwV 1 E.2.2.2.2 (lw_V q736 q737 q738 q132 q739) rfl rfl rfl hd_J5_equals (rm_ok (by omega) (by decide))) (hv_preV hK hI hrv rfl) rfl rfl hl.1 rfl (lv_room (by first | rfl | decide | (simp [va_rf_cat, int_cat, long_cat]; done) | (simp [va_rf_cat, int_cat, long_cat]; decide))) dX6_isTold_225 (hv_fit (by first | exact (Nat.le_refl 0) | omega))) (fun _ _ _ _ _ h => h.elim) (fun b111 y110 H locs hw hI => ?_)
    refine lv_if_eq (tgt := 471) E.1 E.2.1 dX6_isTold_228 (by decide) (fun c113 => ?_) (fun c113 => ?_)
    · replace hw := hw.1 (bi_z c113)
      exact jh2 _ _ hw _ _ _ hI (lv_sub hl [0] rfl)
    · replace hw := hw.2 (bi_n c113)
      refine lv_iconst (v := nI 3) E.1 E.2.1 dX6_isTold_231 rfl ?_
      refine lv_istore_n (lv' := [(3, .int (nI 3)), (2, va_rf (some a25)), (0, va_rf (some a0)), (1, va_rf (some a25))]) E.1 E.2.1 dX6_isTold_232 rfl hl (Nat.le_of_ble_eq_true rfl) (by first | rfl | decide | (simp [va_rf_cat, int_cat, long_cat]; done) | (simp [va_rf_cat, int_cat, long_cat]; decide)) (fun ls hl => ?_)
      refine lv_goto (tgt := 471) E.1 E.2.1 dX6_isTold_233 (by decide) ?_
      exact jh2 _ _ hw _ _ _ hI (lv_sub hl [0] rfl)
  replace hw := hw.2 c109
  by_cases c114 : x27 = nI 94742904
  · replace hw := hw.1 c114
    have hti : x27.toInt = 94742904 := by rw [c114]; decide
    refine lv_lookup (tgt := 264) (off := 256) E.1 E.2.1 dX6_isTold_8 (by decide) (by rw [hti]; decide) (by decide) ?_
    refine hv_aload_n (r := some a25) E.1 E.2.1 dX6_isTold_264 rfl (lv_at hl 1 rfl) ?_
    refine hv_ldcS E hK 10 4 rfl dX6_isTold_265 ?_
    obtain ⟨⟨fs117, hrv⟩, hw⟩ := hw
    have hq := hw
    clear hw
    refine hv_callz (u := 0) (B1 := 0) hI (vx_runV (As := [va_rf (some (gK G 4))]) (rest := []) E (met_J5_equals l G (d + 2) hq) (cwV 1 E.2.2.2.2 (lw_V q736 q737 q738 q132 q739) rfl rfl rfl hd_J5_equals (rm_ok (by omega) (by decide))) (hv_preV hK hI hrv rfl) rfl rfl hl.1 rfl (lv_room (by first | rfl | decide | (simp [va_rf_cat, int_cat, long_cat]; done) | (simp [va_rf_cat, int_cat, long_cat]; decide))) dX6_isTold_267 (hv_fit (by first | exact (Nat.le_refl 0) | omega))) (fun _ _ _ _ _ h => h.elim) (fun b116 y115 H locs hw hI => ?_)
    refine lv_if_eq (tgt := 471) E.1 E.2.1 dX6_isTold_270 (by decide) (fun c118 => ?_) (fun c118 => ?_)
    · replace hw := hw.1 (bi_z c118)
      exact jh2 _ _ hw _ _ _ hI (lv_sub hl [0] rfl)
    · replace hw := hw.2 (bi_n c118)
      refine lv_bipush (v := nI 6) E.1 E.2.1 dX6_isTold_273 rfl ?_
      refine lv_istore_n (lv' := [(3, .int (nI 6)), (2, va_rf (some a25)), (0, va_rf (some a0)), (1, va_rf (some a25))]) E.1 E.2.1 dX6_isTold_275 rfl hl (Nat.le_of_ble_eq_true rfl) (by first | rfl | decide | (simp [va_rf_cat, int_cat, long_cat]; done) | (simp [va_rf_cat, int_cat, long_cat]; decide)) (fun ls hl => ?_)
      refine lv_goto (tgt := 471) E.1 E.2.1 dX6_isTold_276 (by decide) ?_
      exact jh2 _ _ hw _ _ _ hI (lv_sub hl [0] rfl)
  replace hw := hw.2 c114
  by_cases c119 : x27 = nI 102865796
  · replace hw := hw.1 c119
    have hti : x27.toInt = 102865796 := by rw [c119]; decide
    refine lv_lookup (tgt := 444) (off := 436) E.1 E.2.1 dX6_isTold_8 (by decide) (by rw [hti]; decide) (by decide) ?_
    refine hv_aload_n (r := some a25) E.1 E.2.1 dX6_isTold_444 rfl (lv_at hl 1 rfl) ?_
    refine hv_ldcS E hK 22 10 rfl dX6_isTold_445 ?_
    obtain ⟨⟨fs122, hrv⟩, hw⟩ := hw
    have hq := hw
    clear hw
    refine hv_callz (u := 0) (B1 := 0) hI (vx_runV (As := [va_rf (some (gK G 10))]) (rest := []) E (met_J5_equals l G (d + 2) hq) (cwV 1 E.2.2.2.2 (lw_V q736 q737 q738 q132 q739) rfl rfl rfl hd_J5_equals (rm_ok (by omega) (by decide))) (hv_preV hK hI hrv rfl) rfl rfl hl.1 rfl (lv_room (by first | rfl | decide | (simp [va_rf_cat, int_cat, long_cat]; done) | (simp [va_rf_cat, int_cat, long_cat]; decide))) dX6_isTold_447 (hv_fit (by first | exact (Nat.le_refl 0) | omega))) (fun _ _ _ _ _ h => h.elim) (fun b121 y120 H locs hw hI => ?_)
    refine lv_if_eq (tgt := 471) E.1 E.2.1 dX6_isTold_450 (by decide) (fun c123 => ?_) (fun c123 => ?_)
    · replace hw := hw.1 (bi_z c123)
      exact jh2 _ _ hw _ _ _ hI (lv_sub hl [0] rfl)
    · replace hw := hw.2 (bi_n c123)
      refine lv_bipush (v := nI 18) E.1 E.2.1 dX6_isTold_453 rfl ?_
      refine lv_istore_n (lv' := [(3, .int (nI 18)), (2, va_rf (some a25)), (0, va_rf (some a0)), (1, va_rf (some a25))]) E.1 E.2.1 dX6_isTold_455 rfl hl (Nat.le_of_ble_eq_true rfl) (by first | rfl | decide | (simp [va_rf_cat, int_cat, long_cat]; done) | (simp [va_rf_cat, int_cat, long_cat]; decide)) (fun ls hl => ?_)
      refine lv_goto (tgt := 471) E.1 E.2.1 dX6_isTold_456 (by decide) ?_
      exact jh2 _ _ hw _ _ _ hI (lv_sub hl [0] rfl)
  replace hw := hw.2 c119
  by_cases c124 : x27 = nI 739015757
  · replace hw := hw.1 c124
    have hti : x27.toInt = 739015757 := by rw [c124]; decide
    refine lv_lookup (tgt := 180) (off := 172) E.1 E.2.1 dX6_isTold_8 (by decide) (by rw [hti]; decide) (by decide) ?_
    refine hv_aload_n (r := some a25) E.1 E.2.1 dX6_isTold_180 rfl (lv_at hl 1 rfl) ?_
    refine hv_ldcS E hK 5 3 rfl dX6_isTold_181 ?_
    obtain ⟨⟨fs127, hrv⟩, hw⟩ := hw
    have hq := hw
    clear hw
    refine hv_callz (u := 0) (B1 := 0) hI (vx_runV (As := [va_rf (some (gK G 3))]) (rest := []) E (met_J5_equals l G (d + 2) hq) (cwV 1 E.2.2.2.2 (lw_V q736 q737 q738 q132 q739) rfl rfl rfl hd_J5_equals (rm_ok (by omega) (by decide))) (hv_preV hK hI hrv rfl) rfl rfl hl.1 rfl (lv_room (by first | rfl | decide | (simp [va_rf_cat, int_cat, long_cat]; done) | (simp [va_rf_cat, int_cat, long_cat]; decide))) dX6_isTold_183 (hv_fit (by first | exact (Nat.le_refl 0) | omega))) (fun _ _ _ _ _ h => h.elim) (fun b126 y125 H locs hw hI => ?_)
    refine lv_if_eq (tgt := 471) E.1 E.2.1 dX6_isTold_186 (by decide) (fun c128 => ?_) (fun c128 => ?_)
    · replace hw := hw.1 (bi_z c128)
      exact jh2 _ _ hw _ _ _ hI (lv_sub hl [0] rfl)
    · replace hw := hw.2 (bi_n c128)
      refine lv_iconst (v := nI 0) E.1 E.2.1 dX6_isTold_189 rfl ?_
      refine lv_istore_n (lv' := [(3, .int (nI 0)), (2, va_rf (some a25)), (0, va_rf (some a0)), (1, va_rf (some a25))]) E.1 E.2.1 dX6_isTold_190 rfl hl (Nat.le_of_ble_eq_true rfl) (by first | rfl | decide | (simp [va_rf_cat, int_cat, long_cat]; done) | (simp [va_rf_cat, int_cat, long_cat]; decide)) (fun ls hl => ?_)
      refine lv_goto (tgt := 471) E.1 E.2.1 dX6_isTold_191 (by decide) ?_
      exact jh2 _ _ hw _ _ _ hI (lv_sub hl [0] rfl)
  replace hw := hw.2 c124
  refine lv_lookup (tgt := 471) (off := 463) E.1 E.2.1 dX6_isTold_8 (by decide) ((lv_osw c29 (by decide)).trans ((lv_osw c34 (by decide)).trans ((lv_osw c39 (by decide)).trans ((lv_osw c44 (by decide)).trans ((lv_osw c49 (by decide)).trans ((lv_osw c54 (by decide)).trans ((lv_osw c59 (by decide)).trans ((lv_osw c64 (by decide)).trans ((lv_osw c69 (by decide)).trans ((lv_osw c74 (by decide)).trans ((lv_osw c79 (by decide)).trans ((lv_osw c84 (by decide)).trans ((lv_osw c89 (by decide)).trans ((lv_osw c94 (by decide)).trans ((lv_osw c99 (by decide)).trans ((lv_osw c104 (by decide)).trans ((lv_osw c109 (by decide)).trans ((lv_osw c114 (by decide)).trans ((lv_osw c119 (by decide)).trans ((lv_osw c124 (by decide)).trans rfl)))))))))))))))))))) (by decide) ?_
  · skip
    exact jh2 _ _ hw _ _ _ hI (lv_sub hl [0] rfl)
/-- CaseGrouper$Reader.name()Ljava/lang/String; -/
def wp_X6_name (G : GP) (B : Nat) (post : Option Nat → HS → Prop) (xp : Nat → Nat → HS → Prop) (y0 : HS) (a0 : Nat) : Prop := ∃ J1 : HS → Nat → Bool → (Option Nat) → Prop, (∀ (y3 : HS) (u6 : Nat) (b4 : Bool) (r5 : Option Nat), J1 y3 u6 b4 r5 → u6 ≤ B ∧ ∃ a7, r5 = some a7 ∧ (∃ fs9, rd G y3 a7 (ob 4 fs9)) ∧ ∃ k10, u6 + k10 ≤ B ∧ wp_X6_must G k10 (fun y8 => ∃ f11, fR y8 a0 4 4 f11 ∧ isOf G y8 f11 20 ∧ post f11 y8) xp y3 a7 b4 (nI 1)) ∧ (∃ J12 : HS → Nat → (Option Nat) → Prop, (∀ (y14 : HS) (u16 : Nat) (r15 : Option Nat), J12 y14 u16 r15 → u16 ≤ B ∧ J1 y14 u16 false r15) ∧ (∃ f17, fR y0 a0 4 4 f17 ∧ ∃ b18, isIn G y0 f17 20 b18 ∧ (b18 = false → J12 y0 0 (some a0)) ∧ (b18 = true → isOf G y0 f17 20 ∧ (∃ fs22, rd G y0 a0 (ob 4 fs22)) ∧ wp_X6_isTold G (fun b21 y20 => (b21 = true → J12 y20 0 (some a0)) ∧ (b21 = false → J1 y20 0 true (some a0))) y0 a0 f17)))
theorem hs_X6_name : yX6_name.cls ≠ "java/lang/invoke/MethodHandle" ∧ yX6_name.cls ≠ "java/lang/invoke/VarHandle" ∧ (parseMethodDescriptor yX6_name.desc).map (fun d => d.parameters.length) = some 0 := by decide +kernel
theorem hd_X6_name : yX6_name.cls = RX6 ∧ yX6_name.cls ≠ "java/lang/invoke/MethodHandle" ∧ yX6_name.cls ≠ "java/lang/invoke/VarHandle" ∧ (parseMethodDescriptor yX6_name.desc).map (fun d => d.parameters.length) = some 0 := by decide +kernel
set_option maxHeartbeats 4000000 in
theorem met_X6_name (l : Launch) (htr : l.stackTraces = false) (G : GP) (d : Nat) {B : Nat} {post : Option Nat → HS → Prop} {xp : Nat → Nat → HS → Prop} {y0 : HS} {a0 : Nat} (hw : wp_X6_name G B post xp y0 a0) : vx_Met l yX6_name (ws_ yX6_name cX6_name 3 (some (.object "java/lang/String"))) (rmB (d + 6) B) (hPc G y0 [va_rf (some a0)]) (hQq G y0 post) (hX G y0 xp) B (20 * B) (HA y0) := by
  unfold wp_X6_name at hw
  refine hv_met (own := RX6) (by decide) rfl (Nat.le_of_ble_eq_true rfl) ?_
  intro p e s m args below meth c ls E hr hlocks hnm hE hK hI hl
  replace hl : lv_has ls 3 [(0, va_rf (some a0))] := hl
  have hu : 0 ≤ B := Nat.zero_le _
  obtain ⟨J1, hj25, hw⟩ := hw
  have jh2 : ∀ (y3 : HS) (u6 : Nat) (b4 : Bool) (r5 : Option Nat), J1 y3 u6 b4 r5 → ∀ (H : Heap) (locs : List Loc) (ls : Array Slot), HI G y0 y3 s H locs → lv_has ls 3 [(0, va_rf (some a0))] → W p l e (rmB (d + 6) B) s m args below meth c H locs u6 (20 * u6) (vx_MQ below (hQq G y0 post) (hX G y0 xp) args s B (20 * B) (HA y0)) (F0 m 31 ls [.int (bi b4), va_rf r5]) := by
    intro y3 u6 b4 r5 hw H locs ls hI hl
    replace hw := hj25 y3 u6 b4 r5 hw
    obtain ⟨hu, hw⟩ := hw
    refine lv_iconst (v := nI 1) E.1 E.2.1 dX6_name_31 rfl ?_
    obtain ⟨a7, ea7, hw⟩ := hw
    revert hl hw; subst ea7; intro hl hw
    obtain ⟨⟨fs9, hrv⟩, hw⟩ := hw
    obtain ⟨k10, hB, hw⟩ := hw
    have hq := hw
    clear hw
    refine hv_callv (u := u6) (B1 := k10) hI (vx_runV (As := [.int (bi b4), .int (nI 1)]) (rest := []) E (met_X6_must l htr G (d) hq) (cwV 2 E.2.2.2.2 (lw_V q594 q596 qs9 q129 q597) rfl rfl rfl hd_X6_must (rm_ok (by omega) (by decide))) (hv_preV hK hI hrv rfl) rfl rfl hl.1 rfl (lv_room (by first | rfl | decide | (simp [va_rf_cat, int_cat, long_cat]; done) | (simp [va_rf_cat, int_cat, long_cat]; decide))) dX6_name_32 (hv_fit (by first | exact hB | omega))) (fun ec q y1 H locs hx hI hc => hv_out hE hlocks hI hc (by first | exact hB | omega) hx) (fun y8 H locs hw hI => ?_)
    have hu := hB
    refine hv_aload_n (r := some a0) E.1 E.2.1 dX6_name_35 rfl (lv_at hl 0 rfl) ?_
    obtain ⟨f11, ⟨fs, hfs, hfk⟩, hw⟩ := hw
    refine hv_get (v := va_rf f11) E hK hI ciX6 4 (Nat.le_of_ble_eq_true rfl) q281 (fun _ h => h) (Or.inl hfs) hfk dX6_name_36 ?_
    obtain ⟨hof, hw⟩ := hw
    refine hv_castC (cn := 20) E hK hI (by decide) q593 hof dX6_name_39 ?_
    exact hv_aret (r := f11) E hr (Or.inl ⟨_, rfl⟩) hlocks hI hu hw dX6_name_42
  obtain ⟨J12, hj24, hw⟩ := hw
  have jh13 : ∀ (y14 : HS) (u16 : Nat) (r15 : Option Nat), J12 y14 u16 r15 → ∀ (H : Heap) (locs : List Loc) (ls : Array Slot), HI G y0 y14 s H locs → lv_has ls 3 [(0, va_rf (some a0))] → W p l e (rmB (d + 6) B) s m args below meth c H locs u16 (20 * u16) (vx_MQ below (hQq G y0 post) (hX G y0 xp) args s B (20 * B) (HA y0)) (F0 m 30 ls [va_rf r15]) := by
    intro y14 u16 r15 hw H locs ls hI hl
    replace hw := hj24 y14 u16 r15 hw
    obtain ⟨hu, hw⟩ := hw
    refine lv_iconst (v := nI 0) E.1 E.2.1 dX6_name_30 rfl ?_
    exact jh2 _ _ _ _ hw _ _ _ hI (lv_sub hl [0] rfl)
  refine hv_aload_n (r := some a0) E.1 E.2.1 dX6_name_0 rfl (lv_at hl 0 rfl) ?_
  refine hv_aload_n (r := some a0) E.1 E.2.1 dX6_name_1 rfl (lv_at hl 0 rfl) ?_
  obtain ⟨f17, ⟨fs, hfs, hfk⟩, hw⟩ := hw
  refine hv_get (v := va_rf f17) E hK hI ciX6 4 (Nat.le_of_ble_eq_true rfl) q281 (fun _ h => h) (Or.inl hfs) hfk dX6_name_2 ?_
  refine hv_astore_n (r := f17) (lv' := [(2, va_rf f17), (0, va_rf (some a0))]) E.1 E.2.1 dX6_name_5 rfl hl (Nat.le_of_ble_eq_true rfl) (by first | rfl | decide | (simp [va_rf_cat, int_cat, long_cat]; done) | (simp [va_rf_cat, int_cat, long_cat]; decide)) (fun ls hl => ?_)
  refine hv_aload_n (r := f17) E.1 E.2.1 dX6_name_6 rfl (lv_at hl 0 rfl) ?_
  obtain ⟨b18, hin, hw⟩ := hw
  refine hv_inst (cn := 20) E hK hI (by decide) q593 hin dX6_name_7 ?_
  refine lv_if_eq (tgt := 30) E.1 E.2.1 dX6_name_10 (by decide) (fun c19 => ?_) (fun c19 => ?_)
  · replace hw := hw.1 (bi_z c19)
    exact jh13 _ _ _ hw _ _ _ hI (lv_sub hl [1] rfl)
  · replace hw := hw.2 (bi_n c19)
    refine hv_aload_n (r := f17) E.1 E.2.1 dX6_name_13 rfl (lv_at hl 0 rfl) ?_
    obtain ⟨hof, hw⟩ := hw
    refine hv_castC (cn := 20) E hK hI (by decide) q593 hof dX6_name_14 ?_
    refine hv_astore_n (r := f17) (lv' := [(1, va_rf f17), (2, va_rf f17), (0, va_rf (some a0))]) E.1 E.2.1 dX6_name_17 rfl hl (Nat.le_of_ble_eq_true rfl) (by first | rfl | decide | (simp [va_rf_cat, int_cat, long_cat]; done) | (simp [va_rf_cat, int_cat, long_cat]; decide)) (fun ls hl => ?_)
    refine hv_aload_n (r := some a0) E.1 E.2.1 dX6_name_18 rfl (lv_at hl 2 rfl) ?_
    refine hv_aload_n (r := f17) E.1 E.2.1 dX6_name_19 rfl (lv_at hl 0 rfl) ?_
    obtain ⟨⟨fs22, hrv⟩, hw⟩ := hw
    have hq := hw
    clear hw
    refine hv_callz (u := 0) (B1 := 0) hI (vx_runV (As := [va_rf f17]) (rest := [va_rf (some a0)]) E (met_X6_isTold l htr G (d + 1) hq) (cwV 1 E.2.2.2.2 (lw_V q759 q761 qs15 q129 q762) rfl rfl rfl hd_X6_isTold (rm_ok (by omega) (by decide))) (hv_preV hK hI hrv rfl) rfl rfl hl.1 rfl (lv_room (by first | rfl | decide | (simp [va_rf_cat, int_cat, long_cat]; done) | (simp [va_rf_cat, int_cat, long_cat]; decide))) dX6_name_20 (hv_fit (by first | exact hu | omega))) (fun _ _ _ _ _ h => h.elim) (fun b21 y20 H locs hw hI => ?_)
    refine lv_if_ne (tgt := 30) E.1 E.2.1 dX6_name_23 (by decide) (fun c23 => ?_) (fun c23 => ?_)
    · replace hw := hw.1 (bi_n c23)
      exact jh13 _ _ _ hw _ _ _ hI (lv_sub hl [2] rfl)
    · replace hw := hw.2 (bi_z c23)
      refine lv_iconst (v := nI 1) E.1 E.2.1 dX6_name_26 rfl ?_
      refine lv_goto (tgt := 31) E.1 E.2.1 dX6_name_27 (by decide) ?_
      exact jh2 _ _ _ _ hw _ _ _ hI (lv_sub hl [2] rfl)
/-- CaseGrouper$Reader.here()I -/
def wp_X6_here (G : GP) (post : Int32 → HS → Prop) (y0 : HS) (a0 : Nat) : Prop := ∃ f1, fI y0 a0 4 2 f1 ∧ ∃ f2, fI y0 a0 4 0 f2 ∧ (f2 ≤ f1 → post ((-1)) y0) ∧ (¬ f2 ≤ f1 → ∃ f4, fR y0 a0 4 9 f4 ∧ ∃ a5, f4 = some a5 ∧ ∃ f6, fR y0 a5 0 0 f6 ∧ ∃ f7, fI y0 a0 4 2 f7 ∧ ∃ a8, f6 = some a8 ∧ ∃ (n9 : Nat) (g10 : Nat → Int32), rd G y0 a8 (ai 3 n9 g10) ∧ vp_in f7 n9 ∧ post ((g10 f7.toNatClampNeg) &&& (nI 255)) y0)
theorem hs_X6_here : yX6_here.cls ≠ "java/lang/invoke/MethodHandle" ∧ yX6_here.cls ≠ "java/lang/invoke/VarHandle" ∧ (parseMethodDescriptor yX6_here.desc).map (fun d => d.parameters.length) = some 0 := by decide +kernel
theorem hd_X6_here : yX6_here.cls = RX6 ∧ yX6_here.cls ≠ "java/lang/invoke/MethodHandle" ∧ yX6_here.cls ≠ "java/lang/invoke/VarHandle" ∧ (parseMethodDescriptor yX6_here.desc).map (fun d => d.parameters.length) = some 0 := by decide +kernel
set_option maxHeartbeats 4000000 in
theorem met_X6_here (l : Launch) (htr : l.stackTraces = false) (G : GP) (d : Nat) {post : Int32 → HS → Prop} {y0 : HS} {a0 : Nat} (hw : wp_X6_here G post y0 a0) : vx_Met l yX6_here (ws_ yX6_here cX6_here 1 (some .int)) (rmB (d + 0) 0) (hPc G y0 [va_rf (some a0)]) (hQi G y0 post) (hX G y0 (fun _ _ _ => False)) 0 (20 * 0) (HA y0) := by
  unfold wp_X6_here at hw
  refine hv_met (own := RX6) (by decide) rfl (Nat.le_of_ble_eq_true rfl) ?_
  intro p e s m args below meth c ls E hr hlocks hnm hE hK hI hl
  replace hl : lv_has ls 1 [(0, va_rf (some a0))] := hl
  refine hv_aload_n (r := some a0) E.1 E.2.1 dX6_here_0 rfl (lv_at hl 0 rfl) ?_
  obtain ⟨f1, ⟨fs, hfs, hfk⟩, hw⟩ := hw
  refine hv_get (v := .int f1) E hK hI ciX6 2 (Nat.le_of_ble_eq_true rfl) q279 (fun _ h => h) (Or.inl hfs) hfk dX6_here_1 ?_
  refine hv_aload_n (r := some a0) E.1 E.2.1 dX6_here_4 rfl (lv_at hl 0 rfl) ?_
  obtain ⟨f2, ⟨fs, hfs, hfk⟩, hw⟩ := hw
  refine hv_get (v := .int f2) E hK hI ciX6 0 (Nat.le_of_ble_eq_true rfl) q277 (fun _ h => h) (Or.inl hfs) hfk dX6_here_5 ?_
  refine lv_icmp_ge (tgt := 30) E.1 E.2.1 dX6_here_8 (by decide) (fun c3 => ?_) (fun c3 => ?_)
  · replace hw := hw.1 (c3)
    refine lv_iconst (v := (-1)) E.1 E.2.1 dX6_here_30 rfl ?_
    exact hv_ireti E hr hlocks hI (Nat.le_refl 0) hw dX6_here_31
  · replace hw := hw.2 (c3)
    refine hv_aload_n (r := some a0) E.1 E.2.1 dX6_here_11 rfl (lv_at hl 0 rfl) ?_
    obtain ⟨f4, ⟨fs, hfs, hfk⟩, hw⟩ := hw
    refine hv_get (v := va_rf f4) E hK hI ciX6 9 (Nat.le_of_ble_eq_true rfl) q287 (fun _ h => h) (Or.inl hfs) hfk dX6_here_12 ?_
    obtain ⟨a5, ea5, hw⟩ := hw
    revert hl hw; subst ea5; intro hl hw
    obtain ⟨f6, ⟨fs, hfs, hfk⟩, hw⟩ := hw
    refine hv_getN (v := va_rf f6) E hK hI ciX1 0 (Nat.le_of_ble_eq_true rfl) q1419 (fun _ h => h) (Or.inl hfs) hfk dX6_here_15 ?_
    refine hv_aload_n (r := some a0) E.1 E.2.1 dX6_here_18 rfl (lv_at hl 0 rfl) ?_
    obtain ⟨f7, ⟨fs, hfs, hfk⟩, hw⟩ := hw
    refine hv_get (v := .int f7) E hK hI ciX6 2 (Nat.le_of_ble_eq_true rfl) q279 (fun _ h => h) (Or.inl hfs) hfk dX6_here_19 ?_
    obtain ⟨a8, ea8, hw⟩ := hw
    revert hl hw; subst ea8; intro hl hw
    obtain ⟨n9, g10, hra, hin, hw⟩ := hw
    refine hv_bald E hK hI hra hin dX6_here_22 ?_
    refine lv_sipush (v := nI 255) E.1 E.2.1 dX6_here_23 rfl ?_
    refine lv_iand E.1 E.2.1 dX6_here_26 ?_
    refine lv_goto (tgt := 31) E.1 E.2.1 dX6_here_27 (by decide) ?_
    exact hv_ireti E hr hlocks hI (Nat.le_refl 0) hw dX6_here_31
/-- CaseGrouper$Reader.isDigit(I)Z -/
def wp_X6_isDigit (G : GP) (post : Bool → HS → Prop) (y0 : HS) (a0 : Nat) (i1 : Int32) : Prop := wp_X1_within G (fun b2 y1 => post b2 y1) y0 i1 (nI 48) (nI 57)
theorem hs_X6_isDigit : yX6_isDigit.cls ≠ "java/lang/invoke/MethodHandle" ∧ yX6_isDigit.cls ≠ "java/lang/invoke/VarHandle" ∧ (parseMethodDescriptor yX6_isDigit.desc).map (fun d => d.parameters.length) = some 1 := by decide +kernel
theorem hd_X6_isDigit : yX6_isDigit.cls = RX6 ∧ yX6_isDigit.cls ≠ "java/lang/invoke/MethodHandle" ∧ yX6_isDigit.cls ≠ "java/lang/invoke/VarHandle" ∧ (parseMethodDescriptor yX6_isDigit.desc).map (fun d => d.parameters.length) = some 1 := by decide +kernel
set_option maxHeartbeats 4000000 in
theorem met_X6_isDigit (l : Launch) (htr : l.stackTraces = false) (G : GP) (d : Nat) {post : Bool → HS → Prop} {y0 : HS} {a0 : Nat} {i1 : Int32} (hw : wp_X6_isDigit G post y0 a0 i1) : vx_Met l yX6_isDigit (ws_ yX6_isDigit cX6_isDigit 2 (some .boolean)) (rmB (d + 1) 0) (hPc G y0 [va_rf (some a0), .int (i1)]) (hQz G y0 post) (hX G y0 (fun _ _ _ => False)) 0 (20 * 0) (HA y0) := by
  unfold wp_X6_isDigit at hw
  refine hv_met (own := RX6) (by decide) rfl (Nat.le_of_ble_eq_true rfl) ?_
  intro p e s m args below meth c ls E hr hlocks hnm hE hK hI hl
  replace hl : lv_has ls 2 [(0, va_rf (some a0)), (1, .int (i1))] := hl
  refine lv_iload_n E.1 E.2.1 dX6_isDigit_0 rfl (lv_at hl 1 rfl) ?_
  refine lv_bipush (v := nI 48) E.1 E.2.1 dX6_isDigit_1 rfl ?_
  refine lv_bipush (v := nI 57) E.1 E.2.1 dX6_isDigit_3 rfl ?_
  have hq := hw
  clear hw
  refine hv_callz (u := 0) (B1 := 0) hI (vx_runSN (As := [.int (i1), .int (nI 48), .int (nI 57)]) (rest := []) E (met_X1_within l G (d) hq) ⟨va_cnB 3 E.2.2.2.2 (lw_meth q182) rfl rfl rfl (hK.2.2.2.2.1 _ q326 rfl) (E.2.2.2.2 _ q121) hs_X1_within (rm_ok (by omega) (by decide)), E.2.2.2.2 _ q181, trivial⟩ (hv_preS hK hI) rfl rfl hl.1 rfl (lv_room (by first | rfl | decide | (simp [va_rf_cat, int_cat, long_cat]; done) | (simp [va_rf_cat, int_cat, long_cat]; decide))) dX6_isDigit_5 (hv_fit (by first | exact (Nat.le_refl 0) | omega))) (fun _ _ _ _ _ h => h.elim) (fun b2 y1 H locs hw hI => ?_)
  exact hv_iretz (b := b2) E hr hlocks hI (Nat.le_refl 0) rfl hw dX6_isDigit_8
/-- CaseGrouper$Reader.isLetter(I)Z -/
def wp_X6_isLetter (G : GP) (post : Bool → HS → Prop) (y0 : HS) (a0 : Nat) (i1 : Int32) : Prop := wp_X1_within G (fun b2 y1 => post b2 y1) y0 i1 (nI 97) (nI 122)
theorem hs_X6_isLetter : yX6_isLetter.cls ≠ "java/lang/invoke/MethodHandle" ∧ yX6_isLetter.cls ≠ "java/lang/invoke/VarHandle" ∧ (parseMethodDescriptor yX6_isLetter.desc).map (fun d => d.parameters.length) = some 1 := by decide +kernel
theorem hd_X6_isLetter : yX6_isLetter.cls = RX6 ∧ yX6_isLetter.cls ≠ "java/lang/invoke/MethodHandle" ∧ yX6_isLetter.cls ≠ "java/lang/invoke/VarHandle" ∧ (parseMethodDescriptor yX6_isLetter.desc).map (fun d => d.parameters.length) = some 1 := by decide +kernel
set_option maxHeartbeats 4000000 in
theorem met_X6_isLetter (l : Launch) (htr : l.stackTraces = false) (G : GP) (d : Nat) {post : Bool → HS → Prop} {y0 : HS} {a0 : Nat} {i1 : Int32} (hw : wp_X6_isLetter G post y0 a0 i1) : vx_Met l yX6_isLetter (ws_ yX6_isLetter cX6_isLetter 2 (some .boolean)) (rmB (d + 1) 0) (hPc G y0 [va_rf (some a0), .int (i1)]) (hQz G y0 post) (hX G y0 (fun _ _ _ => False)) 0 (20 * 0) (HA y0) := by
  unfold wp_X6_isLetter at hw
  refine hv_met (own := RX6) (by decide) rfl (Nat.le_of_ble_eq_true rfl) ?_
  intro p e s m args below meth c ls E hr hlocks hnm hE hK hI hl
  replace hl : lv_has ls 2 [(0, va_rf (some a0)), (1, .int (i1))] := hl
  refine lv_iload_n E.1 E.2.1 dX6_isLetter_0 rfl (lv_at hl 1 rfl) ?_
  refine lv_bipush (v := nI 97) E.1 E.2.1 dX6_isLetter_1 rfl ?_
  refine lv_bipush (v := nI 122) E.1 E.2.1 dX6_isLetter_3 rfl ?_
  have hq := hw
  clear hw
  refine hv_callz (u := 0) (B1 := 0) hI (vx_runSN (As := [.int (i1), .int (nI 97), .int (nI 122)]) (rest := []) E (met_X1_within l G (d) hq) ⟨va_cnB 3 E.2.2.2.2 (lw_meth q182) rfl rfl rfl (hK.2.2.2.2.1 _ q326 rfl) (E.2.2.2.2 _ q121) hs_X1_within (rm_ok (by omega) (by decide)), E.2.2.2.2 _ q181, trivial⟩ (hv_preS hK hI) rfl rfl hl.1 rfl (lv_room (by first | rfl | decide | (simp [va_rf_cat, int_cat, long_cat]; done) | (simp [va_rf_cat, int_cat, long_cat]; decide))) dX6_isLetter_5 (hv_fit (by first | exact (Nat.le_refl 0) | omega))) (fun _ _ _ _ _ h => h.elim) (fun b2 y1 H locs hw hI => ?_)
  exact hv_iretz (b := b2) E hr hlocks hI (Nat.le_refl 0) rfl hw dX6_isLetter_8
/-- CaseGrouper$Reader.numberOf(Ljava/lang/StringBuilder;I)I -/
def wp_X6_numberOf (G : GP) (post : Int32 → HS → Prop) (y0 : HS) (a0 : Nat) (p1 : Option Nat) (i2 : Int32) : Prop := ∃ I1 : Nat → HS → Int32 → Int32 → Prop, (∃ n8, I1 n8 y0 (nI 0) i2) ∧ ∀ (n2 : Nat) (y3 : HS) (x6 : Int32) (x7 : Int32), I1 n2 y3 x6 x7 → ∃ a9, p1 = some a9 ∧ (∃ fs12, rd G y3 a9 (ob 19 fs12)) ∧ wp_J4_length G (fun x11 y10 => (x11 ≤ x7 → post x6 y10) ∧ (¬ x11 ≤ x7 → (∃ fs16, rd G y10 a9 (ob 19 fs16)) ∧ wp_J4_charAt G (fun x15 y14 => ∀ x17, x17 = (((nI 10) * x6) + x15) - (nI 48) → ∃ n18, n18 < n2 ∧ I1 n18 y14 x17 (x7 + nI 1)) y10 a9 x7)) y3 a9
theorem hs_X6_numberOf : yX6_numberOf.cls ≠ "java/lang/invoke/MethodHandle" ∧ yX6_numberOf.cls ≠ "java/lang/invoke/VarHandle" ∧ (parseMethodDescriptor yX6_numberOf.desc).map (fun d => d.parameters.length) = some 2 := by decide +kernel
theorem hd_X6_numberOf : yX6_numberOf.cls = RX6 ∧ yX6_numberOf.cls ≠ "java/lang/invoke/MethodHandle" ∧ yX6_numberOf.cls ≠ "java/lang/invoke/VarHandle" ∧ (parseMethodDescriptor yX6_numberOf.desc).map (fun d => d.parameters.length) = some 2 := by decide +kernel
set_option maxHeartbeats 4000000 in
theorem met_X6_numberOf (l : Launch) (htr : l.stackTraces = false) (G : GP) (d : Nat) {post : Int32 → HS → Prop} {y0 : HS} {a0 : Nat} {p1 : Option Nat} {i2 : Int32} (hw : wp_X6_numberOf G post y0 a0 p1 i2) : vx_Met l yX6_numberOf (ws_ yX6_numberOf cX6_numberOf 5 (some .int)) (rmB (d + 4) 0) (hPc G y0 [va_rf (some a0), va_rf p1, .int (i2)]) (hQi G y0 post) (hX G y0 (fun _ _ _ => False)) 0 (20 * 0) (HA y0) := by
  unfold wp_X6_numberOf at hw
  refine hv_met (own := RX6) (by decide) rfl (by simp [lg_sl, va_rf_cat, int_cat, long_cat]) ?_
  intro p e s m args below meth c ls E hr hlocks hnm hE hK hI hl
  replace hl : lv_has ls 5 [(0, va_rf (some a0)), (1, va_rf p1), (2, .int (i2))] := by simpa [lv_args, va_rf_cat, int_cat, long_cat] using hl
  refine lv_iconst (v := nI 0) E.1 E.2.1 dX6_numberOf_0 rfl ?_
  refine lv_istore_n (lv' := [(3, .int (nI 0)), (0, va_rf (some a0)), (1, va_rf p1), (2, .int (i2))]) E.1 E.2.1 dX6_numberOf_1 rfl hl (Nat.le_of_ble_eq_true rfl) (by first | rfl | decide | (simp [va_rf_cat, int_cat, long_cat]; done) | (simp [va_rf_cat, int_cat, long_cat]; decide)) (fun ls hl => ?_)
  refine lv_iload_n E.1 E.2.1 dX6_numberOf_2 rfl (lv_at hl 3 rfl) ?_
  refine lv_istore (lv' := [(4, .int (i2)), (3, .int (nI 0)), (0, va_rf (some a0)), (1, va_rf p1), (2, .int (i2))]) E.1 E.2.1 dX6_numberOf_3 hl (Nat.le_of_ble_eq_true rfl) (by first | rfl | decide | (simp [va_rf_cat, int_cat, long_cat]; done) | (simp [va_rf_cat, int_cat, long_cat]; decide)) (fun ls hl => ?_)
  obtain ⟨I1, ⟨n8, hi20⟩, hb19⟩ := hw
  have L5 : ∀ (n2 : Nat) (y3 : HS) (x6 : Int32) (x7 : Int32), I1 n2 y3 x6 x7 → ∀ (H : Heap) (locs : List Loc) (ls : Array Slot), HI G y0 y3 s H locs → lv_has ls 5 [(1, va_rf p1), (3, .int (x6)), (4, .int (x7))] → W p l e (rmB (d + 4) 0) s m args below meth c H locs 0 (20 * 0) (vx_MQ below (hQi G y0 post) (hX G y0 (fun _ _ _ => False)) args s 0 (20 * 0) (HA y0)) (F0 m 5 ls []) := by
    intro n2
    induction n2 using Nat.strongRecOn with
    | _ n2 ih4 =>
      intro y3 x6 x7 hw H locs ls hI hl
      replace hw := hb19 n2 y3 x6 x7 hw
      refine lv_iload E.1 E.2.1 dX6_numberOf_5 (lv_at hl 2 rfl) ?_
      refine hv_aload_n (r := p1) E.1 E.2.1 dX6_numberOf_7 rfl (lv_at hl 0 rfl) ?_
      obtain ⟨a9, ea9, hw⟩ := hw
      revert hl hw; subst ea9; intro hl hw
      obtain ⟨⟨fs12, hrv⟩, hw⟩ := hw
      have hq := hw
      clear hw
      refine hv_calli (u := 0) (B1 := 0) hI (vx_runV (As := []) (rest := [.int (x7)]) E (met_J4_length l G (d + 2) hq) (cwV 0 E.2.2.2.2 (lw_V q367 q368 q369 q131 q370) rfl rfl rfl hd_J4_length (rm_ok (by omega) (by decide))) (hv_preV hK hI hrv rfl) rfl rfl hl.1 rfl (lv_room (by first | rfl | decide | (simp [va_rf_cat, int_cat, long_cat]; done) | (simp [va_rf_cat, int_cat, long_cat]; decide))) dX6_numberOf_8 (hv_fit (by first | exact (Nat.le_refl 0) | omega))) (fun _ _ _ _ _ h => h.elim) (fun x11 y10 H locs hw hI => ?_)
      refine lv_icmp_ge (tgt := 35) E.1 E.2.1 dX6_numberOf_11 (by decide) (fun c13 => ?_) (fun c13 => ?_)
      · replace hw := hw.1 (c13)
        refine lv_iload_n E.1 E.2.1 dX6_numberOf_35 rfl (lv_at hl 1 rfl) ?_
        exact hv_ireti E hr hlocks hI (Nat.le_refl 0) hw dX6_numberOf_36
      · replace hw := hw.2 (c13)
        refine lv_bipush (v := nI 10) E.1 E.2.1 dX6_numberOf_14 rfl ?_
        refine lv_iload_n E.1 E.2.1 dX6_numberOf_16 rfl (lv_at hl 1 rfl) ?_
        refine lv_imul E.1 E.2.1 dX6_numberOf_17 ?_
        refine hv_aload_n (r := some a9) E.1 E.2.1 dX6_numberOf_18 rfl (lv_at hl 0 rfl) ?_
        refine lv_iload E.1 E.2.1 dX6_numberOf_19 (lv_at hl 2 rfl) ?_
        obtain ⟨⟨fs16, hrv⟩, hw⟩ := hw
        have hq := hw
        clear hw
        refine hv_calli (u := 0) (B1 := 0) hI (vx_runV (As := [.int (x7)]) (rest := [.int ((nI 10) * x6)]) E (met_J4_charAt l G (d) hq) (cwV 1 E.2.2.2.2 (lw_V q529 q530 q531 q131 q532) rfl rfl rfl hd_J4_charAt (rm_ok (by omega) (by decide))) (hv_preV hK hI hrv rfl) rfl rfl hl.1 rfl (lv_room (by first | rfl | decide | (simp [va_rf_cat, int_cat, long_cat]; done) | (simp [va_rf_cat, int_cat, long_cat]; decide))) dX6_numberOf_21 (hv_fit (by first | exact (Nat.le_refl 0) | omega))) (fun _ _ _ _ _ h => h.elim) (fun x15 y14 H locs hw hI => ?_)
        refine lv_iadd E.1 E.2.1 dX6_numberOf_24 ?_
        refine lv_bipush (v := nI 48) E.1 E.2.1 dX6_numberOf_25 rfl ?_
        refine lv_isub E.1 E.2.1 dX6_numberOf_27 ?_
        refine lv_topi (fun x17 ex17 => ?_)
        replace hw := hw x17 ex17
        refine lv_istore_n (lv' := [(3, .int (x17)), (1, va_rf (some a9)), (4, .int (x7))]) E.1 E.2.1 dX6_numberOf_28 rfl hl (Nat.le_of_ble_eq_true rfl) (by first | rfl | decide | (simp [va_rf_cat, int_cat, long_cat]; done) | (simp [va_rf_cat, int_cat, long_cat]; decide)) (fun ls hl => ?_)
        refine lv_iinc (k := 2) (v := x7 + nI 1) (lv' := [(4, .int (x7 + nI 1)), (3, .int (x17)), (1, va_rf (some a9))]) E.1 E.2.1 dX6_numberOf_29 hl rfl rfl (Nat.le_of_ble_eq_true rfl) (by first | rfl | decide | (simp [va_rf_cat, int_cat, long_cat]; done) | (simp [va_rf_cat, int_cat, long_cat]; decide)) (fun ls hl => ?_)
        refine lv_goto (tgt := 5) E.1 E.2.1 dX6_numberOf_32 (by decide) ?_
        obtain ⟨n18, hnn18, hin18⟩ := hw
        exact ih4 n18 hnn18 _ _ _ hin18 _ _ _ hI (lv_sub hl [2, 1, 0] rfl)
  exact L5 n8 _ _ _ hi20 _ _ _ hI (lv_sub hl [3, 1, 0] rfl)
/-- CaseGrouper$Reader.codeOf(Ljava/lang/StringBuilder;)Ljava/lang/Object; -/
def wp_X6_codeOf (G : GP) (B : Nat) (post : Option Nat → HS → Prop) (y0 : HS) (a0 : Nat) (p1 : Option Nat) : Prop := ∃ a1, p1 = some a1 ∧ (∃ fs4, rd G y0 a1 (ob 19 fs4)) ∧ wp_J4_charAt G (fun x3 y2 => wp_X1_within G (fun b6 y5 => (b6 = false → wp_X1_within G (fun b9 y8 => (b9 = false → post none y8) ∧ (b9 = true → 0 + 1 ≤ B ∧ ∀ a12, a12 = y8.2 → ∀ y11, y11 = hnew y8 (ob 5 [.int 0]) → (∃ fs15, rd G y11 a0 (ob 4 fs15)) ∧ wp_X6_numberOf G (fun x14 y13 => wp_X7_init G (fun y16 => post (some a12) y16) y13 a12 (((nI 1000) + ((nI 100) * (x3 - (nI 112)))) + x14)) y11 a0 (some a1) (nI 1))) y5 x3 (nI 112) (nI 116)) ∧ (b6 = true → 0 + 1 ≤ B ∧ ∀ a18, a18 = y5.2 → ∀ y17, y17 = hnew y5 (ob 5 [.int 0]) → (∃ fs21, rd G y17 a0 (ob 4 fs21)) ∧ wp_X6_numberOf G (fun x20 y19 => wp_X7_init G (fun y22 => post (some a18) y22) y19 a18 (((nI 100) * (x3 - (nI 97))) + x20)) y17 a0 (some a1) (nI 1))) y2 x3 (nI 97) (nI 106)) y0 a1 (nI 0)
theorem hs_X6_codeOf : yX6_codeOf.cls ≠ "java/lang/invoke/MethodHandle" ∧ yX6_codeOf.cls ≠ "java/lang/invoke/VarHandle" ∧ (parseMethodDescriptor yX6_codeOf.desc).map (fun d => d.parameters.length) = some 1 := by decide +kernel
theorem hd_X6_codeOf : yX6_codeOf.cls = RX6 ∧ yX6_codeOf.cls ≠ "java/lang/invoke/MethodHandle" ∧ yX6_codeOf.cls ≠ "java/lang/invoke/VarHandle" ∧ (parseMethodDescriptor yX6_codeOf.desc).map (fun d => d.parameters.length) = some 1 := by decide +kernel
set_option maxHeartbeats 4000000 in
theorem met_X6_codeOf (l : Launch) (htr : l.stackTraces = false) (G : GP) (d : Nat) {B : Nat} {post : Option Nat → HS → Prop} {y0 : HS} {a0 : Nat} {p1 : Option Nat} (hw : wp_X6_codeOf G B post y0 a0 p1) : vx_Met l yX6_codeOf (ws_ yX6_codeOf cX6_codeOf 3 (some (.object "java/lang/Object"))) (rmB (d + 5) B) (hPc G y0 [va_rf (some a0), va_rf p1]) (hQq G y0 post) (hX G y0 (fun _ _ _ => False)) B (20 * B) (HA y0) := by
  unfold wp_X6_codeOf at hw
  refine hv_met (own := RX6) (by decide) rfl (by simp [lg_sl, va_rf_cat, int_cat, long_cat]) ?_
  intro p e s m args below meth c ls E hr hlocks hnm hE hK hI hl
  replace hl : lv_has ls 3 [(0, va_rf (some a0)), (1, va_rf p1)] := by simpa [lv_args, va_rf_cat, int_cat, long_cat] using hl
  have hu : 0 ≤ B := Nat.zero_le _
  refine hv_aload_n (r := p1) E.1 E.2.1 dX6_codeOf_0 rfl (lv_at hl 1 rfl) ?_
  refine lv_iconst (v := nI 0) E.1 E.2.1 dX6_codeOf_1 rfl ?_
  obtain ⟨a1, ea1, hw⟩ := hw
  revert hl hw; subst ea1; intro hl hw
  obtain ⟨⟨fs4, hrv⟩, hw⟩ := hw
  have hq := hw
  clear hw
  refine hv_calli (u := 0) (B1 := 0) hI (vx_runV (As := [.int (nI 0)]) (rest := []) E (met_J4_charAt l G (d + 1) hq) (cwV 1 E.2.2.2.2 (lw_V q529 q530 q531 q131 q532) rfl rfl rfl hd_J4_charAt (rm_ok (by omega) (by decide))) (hv_preV hK hI hrv rfl) rfl rfl hl.1 rfl (lv_room (by first | rfl | decide | (simp [va_rf_cat, int_cat, long_cat]; done) | (simp [va_rf_cat, int_cat, long_cat]; decide))) dX6_codeOf_2 (hv_fit (by first | exact hu | omega))) (fun _ _ _ _ _ h => h.elim) (fun x3 y2 H locs hw hI => ?_)
  refine lv_istore_n (lv' := [(2, .int (x3)), (0, va_rf (some a0)), (1, va_rf (some a1))]) E.1 E.2.1 dX6_codeOf_5 rfl hl (Nat.le_of_ble_eq_true rfl) (by first | rfl | decide | (simp [va_rf_cat, int_cat, long_cat]; done) | (simp [va_rf_cat, int_cat, long_cat]; decide)) (fun ls hl => ?_)
  refine lv_iload_n E.1 E.2.1 dX6_codeOf_6 rfl (lv_at hl 0 rfl) ?_
  refine lv_bipush (v := nI 97) E.1 E.2.1 dX6_codeOf_7 rfl ?_
  refine lv_bipush (v := nI 106) E.1 E.2.1 dX6_codeOf_9 rfl ?_
  have hq := hw
  clear hw
  refine hv_callz (u := 0) (B1 := 0) hI (vx_runSN (As := [.int (x3), .int (nI 97), .int (nI 106)]) (rest := []) E (met_X1_within l G (d + 4) hq) ⟨va_cnB 3 E.2.2.2.2 (lw_meth q182) rfl rfl rfl (hK.2.2.2.2.1 _ q326 rfl) (E.2.2.2.2 _ q121) hs_X1_within (rm_ok (by omega) (by decide)), E.2.2.2.2 _ q181, trivial⟩ (hv_preS hK hI) rfl rfl hl.1 rfl (lv_room (by first | rfl | decide | (simp [va_rf_cat, int_cat, long_cat]; done) | (simp [va_rf_cat, int_cat, long_cat]; decide))) dX6_codeOf_11 (hv_fit (by first | exact hu | omega))) (fun _ _ _ _ _ h => h.elim) (fun b6 y5 H locs hw hI => ?_)
  refine lv_if_eq (tgt := 39) E.1 E.2.1 dX6_codeOf_14 (by decide) (fun c7 => ?_) (fun c7 => ?_)
  · replace hw := hw.1 (bi_z c7)
    refine lv_iload_n E.1 E.2.1 dX6_codeOf_39 rfl (lv_at hl 0 rfl) ?_
    refine lv_bipush (v := nI 112) E.1 E.2.1 dX6_codeOf_40 rfl ?_
    refine lv_bipush (v := nI 116) E.1 E.2.1 dX6_codeOf_42 rfl ?_
    have hq := hw
    clear hw
    refine hv_callz (u := 0) (B1 := 0) hI (vx_runSN (As := [.int (x3), .int (nI 112), .int (nI 116)]) (rest := []) E (met_X1_within l G (d + 4) hq) ⟨va_cnB 3 E.2.2.2.2 (lw_meth q182) rfl rfl rfl (hK.2.2.2.2.1 _ q326 rfl) (E.2.2.2.2 _ q121) hs_X1_within (rm_ok (by omega) (by decide)), E.2.2.2.2 _ q181, trivial⟩ (hv_preS hK hI) rfl rfl hl.1 rfl (lv_room (by first | rfl | decide | (simp [va_rf_cat, int_cat, long_cat]; done) | (simp [va_rf_cat, int_cat, long_cat]; decide))) dX6_codeOf_44 (hv_fit (by first | exact hu | omega))) (fun _ _ _ _ _ h => h.elim) (fun b9 y8 H locs hw hI => ?_)
    refine lv_if_eq (tgt := 76) E.1 E.2.1 dX6_codeOf_47 (by decide) (fun c10 => ?_) (fun c10 => ?_)
    · replace hw := hw.1 (bi_z c10)
      refine lv_null E.1 E.2.1 dX6_codeOf_76 ?_
      exact hv_aret (r := none) E hr (Or.inl ⟨_, rfl⟩) hlocks hI hu hw dX6_codeOf_77
    · replace hw := hw.2 (bi_n c10)
      obtain ⟨hu, hw⟩ := hw
      refine hv_new (fs := [.int 0]) E hK hI ciX7 q563 q564 q143 (df5) (Nat.le_of_ble_eq_true rfl) hu dX6_codeOf_50 (fun H hI => ?_)
      obtain ⟨a12, ea12⟩ : ∃ w, w = y8.2 := ⟨_, rfl⟩
      obtain ⟨y11, ey11⟩ : ∃ w, w = hnew y8 (ob 5 [.int 0]) := ⟨_, rfl⟩
      rw [← ea12]
      rw [← ey11] at hI
      replace hw := hw a12 ea12 y11 ey11
      refine hv_dup E.1 E.2.1 dX6_codeOf_53 ?_
      refine lv_sipush (v := nI 1000) E.1 E.2.1 dX6_codeOf_54 rfl ?_
      refine lv_bipush (v := nI 100) E.1 E.2.1 dX6_codeOf_57 rfl ?_
      refine lv_iload_n E.1 E.2.1 dX6_codeOf_59 rfl (lv_at hl 0 rfl) ?_
      refine lv_bipush (v := nI 112) E.1 E.2.1 dX6_codeOf_60 rfl ?_
      refine lv_isub E.1 E.2.1 dX6_codeOf_62 ?_
      refine lv_imul E.1 E.2.1 dX6_codeOf_63 ?_
      refine lv_iadd E.1 E.2.1 dX6_codeOf_64 ?_
      refine hv_aload_n (r := some a0) E.1 E.2.1 dX6_codeOf_65 rfl (lv_at hl 1 rfl) ?_
      refine hv_aload_n (r := some a1) E.1 E.2.1 dX6_codeOf_66 rfl (lv_at hl 2 rfl) ?_
      refine lv_iconst (v := nI 1) E.1 E.2.1 dX6_codeOf_67 rfl ?_
      obtain ⟨⟨fs15, hrv⟩, hw⟩ := hw
      have hq := hw
      clear hw
      refine hv_calli (u := ((0 + 1))) (B1 := 0) hI (vx_runV (As := [va_rf (some a1), .int (nI 1)]) (rest := [.int ((nI 1000) + ((nI 100) * (x3 - (nI 112)))), va_rf (some a12), va_rf (some a12)]) E (met_X6_numberOf l htr G (d) hq) (cwV 2 E.2.2.2.2 (lw_V q525 q527 qs6 q129 q528) rfl rfl rfl hd_X6_numberOf (rm_ok (by omega) (by decide))) (hv_preV hK hI hrv rfl) rfl rfl hl.1 rfl (lv_room (by first | rfl | decide | (simp [va_rf_cat, int_cat, long_cat]; done) | (simp [va_rf_cat, int_cat, long_cat]; decide))) dX6_codeOf_68 (hv_fit (by first | exact hu | omega))) (fun _ _ _ _ _ h => h.elim) (fun x14 y13 H locs hw hI => ?_)
      refine lv_iadd E.1 E.2.1 dX6_codeOf_71 ?_
      have hq := hw
      clear hw
      refine hv_callv (u := ((0 + 1))) (B1 := 0) hI (vx_runI (b := a12) (As := [.int (((nI 1000) + ((nI 100) * (x3 - (nI 112)))) + x14)]) (rest := [va_rf (some a12)]) E (met_X7_init l G (d + 3) hq) (cwI 1 E.2.2.2.2 (lw_meth q567) rfl rfl rfl (E.2.2.2.2 _ q143) (E.2.2.2.2 _ q565) (E.2.2.2.2 _ q566) rfl hs_X7_init (rm_ok (by omega) (by decide))) (hv_preS hK hI) rfl rfl hl.1 rfl (lv_room (by first | rfl | decide | (simp [va_rf_cat, int_cat, long_cat]; done) | (simp [va_rf_cat, int_cat, long_cat]; decide))) dX6_codeOf_72 (hv_fit (by first | exact hu | omega))) (fun _ _ _ _ _ h => h.elim) (fun y16 H locs hw hI => ?_)
      exact hv_aret (r := some a12) E hr (Or.inl ⟨_, rfl⟩) hlocks hI hu hw dX6_codeOf_75
  · replace hw := hw.2 (bi_n c7)
    obtain ⟨hu, hw⟩ := hw
    refine hv_new (fs := [.int 0]) E hK hI ciX7 q563 q564 q143 (df5) (Nat.le_of_ble_eq_true rfl) hu dX6_codeOf_17 (fun H hI => ?_)
    obtain ⟨a18, ea18⟩ : ∃ w, w = y5.2 := ⟨_, rfl⟩
    obtain ⟨y17, ey17⟩ : ∃ w, w = hnew y5 (ob 5 [.int 0]) := ⟨_, rfl⟩
    rw [← ea18]
    rw [← ey17] at hI
    replace hw := hw a18 ea18 y17 ey17
    refine hv_dup E.1 E.2.1 dX6_codeOf_20 ?_
    refine lv_bipush (v := nI 100) E.1 E.2.1 dX6_codeOf_21 rfl ?_
    refine lv_iload_n E.1 E.2.1 dX6_codeOf_23 rfl (lv_at hl 0 rfl) ?_
    refine lv_bipush (v := nI 97) E.1 E.2.1 dX6_codeOf_24 rfl ?_
    refine lv_isub E.1 E.2.1 dX6_codeOf_26 ?_
    refine lv_imul E.1 E.2.1 dX6_codeOf_27 ?_
    refine hv_aload_n (r := some a0) E.1 E.2.1 dX6_codeOf_28 rfl (lv_at hl 1 rfl) ?_
    refine hv_aload_n (r := some a1) E.1 E.2.1 dX6_codeOf_29 rfl (lv_at hl 2 rfl) ?_
    refine lv_iconst (v := nI 1) E.1 E.2.1 dX6_codeOf_30 rfl ?_
    obtain ⟨⟨fs21, hrv⟩, hw⟩ := hw
    have hq := hw
    clear hw
    refine hv_calli (u := ((0 + 1))) (B1 := 0) hI (vx_runV (As := [va_rf (some a1), .int (nI 1)]) (rest := [.int ((nI 100) * (x3 - (nI 97))), va_rf (some a18), va_rf (some a18)]) E (met_X6_numberOf l htr G (d) hq) (cwV 2 E.2.2.2.2 (lw_V q525 q527 qs6 q129 q528) rfl rfl rfl hd_X6_numberOf (rm_ok (by omega) (by decide))) (hv_preV hK hI hrv rfl) rfl rfl hl.1 rfl (lv_room (by first | rfl | decide | (simp [va_rf_cat, int_cat, long_cat]; done) | (simp [va_rf_cat, int_cat, long_cat]; decide))) dX6_codeOf_31 (hv_fit (by first | exact hu | omega))) (fun _ _ _ _ _ h => h.elim) (fun x20 y19 H locs hw hI => ?_)
    refine lv_iadd E.1 E.2.1 dX6_codeOf_34 ?_
    have hq := hw
    clear hw
    refine hv_callv (u := ((0 + 1))) (B1 := 0) hI (vx_runI (b := a18) (As := [.int (((nI 100) * (x3 - (nI 97))) + x20)]) (rest := [va_rf (some a18)]) E (met_X7_init l G (d + 3) hq) (cwI 1 E.2.2.2.2 (lw_meth q567) rfl rfl rfl (E.2.2.2.2 _ q143) (E.2.2.2.2 _ q565) (E.2.2.2.2 _ q566) rfl hs_X7_init (rm_ok (by omega) (by decide))) (hv_preS hK hI) rfl rfl hl.1 rfl (lv_room (by first | rfl | decide | (simp [va_rf_cat, int_cat, long_cat]; done) | (simp [va_rf_cat, int_cat, long_cat]; decide))) dX6_codeOf_35 (hv_fit (by first | exact hu | omega))) (fun _ _ _ _ _ h => h.elim) (fun y22 H locs hw hI => ?_)
    exact hv_aret (r := some a18) E hr (Or.inl ⟨_, rfl⟩) hlocks hI hu hw dX6_codeOf_38
/-- CaseGrouper$Reader.runs()V -/
def wp_X6_runs (G : GP) (B : Nat) (post : HS → Prop) (y0 : HS) (a0 : Nat) : Prop := 0 + 1 ≤ B ∧ ∀ a2, a2 = y0.2 → ∀ y1, y1 = hnew y0 (ob 19 [va_rf none, .int 0, .int 0, .int 0]) → ∃ k4, (0 + 1) + k4 ≤ B ∧ wp_J4_init G k4 (fun y3 => ∃ I5 : Nat → HS → Nat → Int32 → Prop, (∃ n12, I5 n12 y3 (((0 + 1) + k4)) (nI 0)) ∧ ∀ (n6 : Nat) (y7 : HS) (u11 : Nat) (x10 : Int32), I5 n6 y7 u11 x10 → u11 ≤ B ∧ ∃ J13 : HS → Nat → Prop, (∀ (y15 : HS) (u16 : Nat), J13 y15 u16 → u16 ≤ B ∧ ∃ J17 : HS → Nat → Bool → Int32 → Prop, (∀ (y19 : HS) (u22 : Nat) (b20 : Bool) (x21 : Int32), J17 y19 u22 b20 x21 → u22 ≤ B ∧ ∀ x23, x23 = x21 + (bi b20) → (∃ fs26, rd G y19 a2 (ob 19 fs26)) ∧ wp_J4_length G (fun x25 y24 => ((nI 9) ≤ x25 → ∃ f28, fI y24 a0 4 2 f28 ∧ ∃ fs30, y24.1 a0 = some (ob 4 fs30) ∧ 2 < fs30.length ∧ ∀ y29, y29 = hput y24 a0 (ob 4 (fs30.set 2 (.int (f28 + (nI 1))))) → ∃ n31, n31 < n6 ∧ I5 n31 y29 u22 x23) ∧ (¬ (nI 9) ≤ x25 → (∃ fs34, rd G y24 a0 (ob 4 fs34)) ∧ wp_X6_here G (fun x33 y32 => (∃ fs37, rd G y32 a2 (ob 19 fs37)) ∧ wp_J4_append G (fun r36 y35 => ∃ f38, fI y35 a0 4 2 f38 ∧ ∃ fs40, y35.1 a0 = some (ob 4 fs40) ∧ 2 < fs40.length ∧ ∀ y39, y39 = hput y35 a0 (ob 4 (fs40.set 2 (.int (f38 + (nI 1))))) → ∃ n41, n41 < n6 ∧ I5 n41 y39 u22 x23) y32 a2 ((x33.toUInt32 % 65536).toInt32)) y24 a0)) y19 a2) ∧ ((∃ fs44, rd G y15 a0 (ob 4 fs44)) ∧ wp_X6_here G (fun x43 y42 => (∃ fs47, rd G y42 a0 (ob 4 fs47)) ∧ wp_X6_isLetter G (fun b46 y45 => (b46 = false → J17 y45 u16 false x10) ∧ (b46 = true → J17 y45 u16 true x10)) y42 a0 x43) y15 a0)) ∧ ((∃ fs52, rd G y7 a0 (ob 4 fs52)) ∧ wp_X6_here G (fun x51 y50 => (∃ fs55, rd G y50 a0 (ob 4 fs55)) ∧ wp_X6_isLetter G (fun b54 y53 => (b54 = true → J13 y53 u11 ) ∧ (b54 = false → (∃ fs59, rd G y53 a0 (ob 4 fs59)) ∧ wp_X6_here G (fun x58 y57 => (∃ fs62, rd G y57 a0 (ob 4 fs62)) ∧ wp_X6_isDigit G (fun b61 y60 => (b61 = false → ∃ J64 : HS → Nat → Int32 → Prop, (∀ (y66 : HS) (u68 : Nat) (x67 : Int32), J64 y66 u68 x67 → u68 ≤ B ∧ ∃ J69 : HS → Nat → Prop, (∀ (y71 : HS) (u72 : Nat), J69 y71 u72 → u72 ≤ B ∧ (¬ x10 = (nI 1) → post y71) ∧ (x10 = (nI 1) → (¬ x67 = (nI 3) → post y71) ∧ (x67 = (nI 3) → (∃ fs77, rd G y71 a0 (ob 4 fs77)) ∧ ∃ k78, u72 + k78 ≤ B ∧ wp_X6_codeOf G k78 (fun r76 y75 => ∃ fs80, y75.1 a0 = some (ob 4 fs80) ∧ 4 < fs80.length ∧ ∀ y79, y79 = hput y75 a0 (ob 4 (fs80.set 4 (va_rf r76))) → post y79) y71 a0 (some a2)))) ∧ ((¬ x10 = 0 → J69 y66 u68 ) ∧ (x10 = 0 → ((nI 3) < x67 → J69 y66 u68 ) ∧ (¬ (nI 3) < x67 → (∃ fs85, rd G y66 a0 (ob 4 fs85)) ∧ wp_X6_numberOf G (fun x84 y83 => ∃ k88, u68 + k88 ≤ B ∧ wp_J13_valueOf G k88 (fun r87 y86 => ∃ fs90, y86.1 a0 = some (ob 4 fs90) ∧ 4 < fs90.length ∧ ∀ y89, y89 = hput y86 a0 (ob 4 (fs90.set 4 (va_rf r87))) → post y89) y83 x84) y66 a0 (some a2) (nI 0))))) ∧ (∃ f92, fI y60 a0 4 2 f92 ∧ ∃ f93, fI y60 a0 4 3 f93 ∧ ∀ x94, x94 = f92 - f93 → (¬ x10 = x94 → J64 y60 u11 x94) ∧ (x10 = x94 → ((nI 8) < x94 → J64 y60 u11 x94) ∧ (¬ (nI 8) < x94 → (∃ fs99, rd G y60 a2 (ob 19 fs99)) ∧ ∃ k100, u11 + k100 ≤ B ∧ wp_J4_toString G k100 (fun r98 y97 => ∃ fs102, y97.1 a0 = some (ob 4 fs102) ∧ 4 < fs102.length ∧ ∀ y101, y101 = hput y97 a0 (ob 4 (fs102.set 4 (va_rf r98))) → post y101) y60 a2)))) ∧ (b61 = true → J13 y60 u11 )) y57 a0 x58) y53 a0)) y50 a0 x51) y7 a0)) y1 a2
theorem hs_X6_runs : yX6_runs.cls ≠ "java/lang/invoke/MethodHandle" ∧ yX6_runs.cls ≠ "java/lang/invoke/VarHandle" ∧ (parseMethodDescriptor yX6_runs.desc).map (fun d => d.parameters.length) = some 0 := by decide +kernel
theorem hd_X6_runs : yX6_runs.cls = RX6 ∧ yX6_runs.cls ≠ "java/lang/invoke/MethodHandle" ∧ yX6_runs.cls ≠ "java/lang/invoke/VarHandle" ∧ (parseMethodDescriptor yX6_runs.desc).map (fun d => d.parameters.length) = some 0 := by decide +kernel
set_option maxHeartbeats 4000000 in
theorem met_X6_runs (l : Launch) (htr : l.stackTraces = false) (G : GP) (d : Nat) {B : Nat} {post : HS → Prop} {y0 : HS} {a0 : Nat} (hw : wp_X6_runs G B post y0 a0) : vx_Met l yX6_runs (ws_ yX6_runs cX6_runs 4 none) (rmB (d + 6) B) (hPc G y0 [va_rf (some a0)]) (hQv G y0 post) (hX G y0 (fun _ _ _ => False)) B (20 * B) (HA y0) := by
  unfold wp_X6_runs at hw
  refine hv_met (own := RX6) (by decide) rfl (Nat.le_of_ble_eq_true rfl) ?_
  intro p e s m args below meth c ls E hr hlocks hnm hE hK hI hl
  replace hl : lv_has ls 4 [(0, va_rf (some a0))] := hl
  have hu : 0 ≤ B := Nat.zero_le _
  obtain ⟨hu, hw⟩ := hw
  refine hv_new (fs := [va_rf none, .int 0, .int 0, .int 0]) E hK hI ciJ4 q335 q336 q131 (df19) (Nat.le_of_ble_eq_true rfl) hu dX6_runs_0 (fun H hI => ?_)
  obtain ⟨a2, ea2⟩ : ∃ w, w = y0.2 := ⟨_, rfl⟩
  obtain ⟨y1, ey1⟩ : ∃ w, w = hnew y0 (ob 19 [va_rf none, .int 0, .int 0, .int 0]) := ⟨_, rfl⟩
  rw [← ea2]
  rw [← ey1] at hI
  replace hw := hw a2 ea2 y1 ey1
  refine hv_dup E.1 E.2.1 dX6_runs_3 ?_
  obtain ⟨k4, hB, hw⟩ := hw
  have hq := hw
  clear hw
  refine hv_callv (u := ((0 + 1))) (B1 := k4) hI (vx_runI (b := a2) (As := []) (rest := [va_rf (some a2)]) E (met_J4_init l G (d + 3) hq) (cwI 0 E.2.2.2.2 (lw_meth q339) rfl rfl rfl (E.2.2.2.2 _ q131) (E.2.2.2.2 _ q337) (E.2.2.2.2 _ q338) rfl hs_J4_init (rm_ok (by omega) (by decide))) (hv_preS hK hI) rfl rfl hl.1 rfl (lv_room (by first | rfl | decide | (simp [va_rf_cat, int_cat, long_cat]; done) | (simp [va_rf_cat, int_cat, long_cat]; decide))) dX6_runs_4 (hv_fit (by first | exact hB | omega))) (fun _ _ _ _ _ h => h.elim) (fun y3 H locs hw hI => ?_)
  have hu := hB
  refine hv_astore_n (r := some a2) (lv' := [(1, va_rf (some a2)), (0, va_rf (some a0))]) E.1 E.2.1 dX6_runs_7 rfl hl (Nat.le_of_ble_eq_true rfl) (by first | rfl | decide | (simp [va_rf_cat, int_cat, long_cat]; done) | (simp [va_rf_cat, int_cat, long_cat]; decide)) (fun ls hl => ?_)
  refine lv_iconst (v := nI 0) E.1 E.2.1 dX6_runs_8 rfl ?_
  refine lv_istore_n (lv' := [(2, .int (nI 0)), (1, va_rf (some a2)), (0, va_rf (some a0))]) E.1 E.2.1 dX6_runs_9 rfl hl (Nat.le_of_ble_eq_true rfl) (by first | rfl | decide | (simp [va_rf_cat, int_cat, long_cat]; done) | (simp [va_rf_cat, int_cat, long_cat]; decide)) (fun ls hl => ?_)
  obtain ⟨I5, ⟨n12, hi106⟩, hb105⟩ := hw
  have L9 : ∀ (n6 : Nat) (y7 : HS) (u11 : Nat) (x10 : Int32), I5 n6 y7 u11 x10 → ∀ (H : Heap) (locs : List Loc) (ls : Array Slot), HI G y0 y7 s H locs → lv_has ls 4 [(0, va_rf (some a0)), (1, va_rf (some a2)), (2, .int (x10))] → W p l e (rmB (d + 6) B) s m args below meth c H locs u11 (20 * u11) (vx_MQ below (hQv G y0 post) (hX G y0 (fun _ _ _ => False)) args s B (20 * B) (HA y0)) (F0 m 10 ls []) := by
    intro n6
    induction n6 using Nat.strongRecOn with
    | _ n6 ih8 =>
      intro y7 u11 x10 hw H locs ls hI hl
      replace hw := hb105 n6 y7 u11 x10 hw
      obtain ⟨hu, hw⟩ := hw
      obtain ⟨J13, hj104, hw⟩ := hw
      have jh14 : ∀ (y15 : HS) (u16 : Nat), J13 y15 u16 → ∀ (H : Heap) (locs : List Loc) (ls : Array Slot), HI G y0 y15 s H locs → lv_has ls 4 [(0, va_rf (some a0)), (1, va_rf (some a2)), (2, .int (x10))] → W p l e (rmB (d + 6) B) s m args below meth c H locs u16 (20 * u16) (vx_MQ below (hQv G y0 post) (hX G y0 (fun _ _ _ => False)) args s B (20 * B) (HA y0)) (F0 m 32 ls []) := by
        intro y15 u16 hw H locs ls hI hl
        replace hw := hj104 y15 u16 hw
        obtain ⟨hu, hw⟩ := hw
        obtain ⟨J17, hj49, hw⟩ := hw
        have jh18 : ∀ (y19 : HS) (u22 : Nat) (b20 : Bool) (x21 : Int32), J17 y19 u22 b20 x21 → ∀ (H : Heap) (locs : List Loc) (ls : Array Slot), HI G y0 y19 s H locs → lv_has ls 4 [(0, va_rf (some a0)), (1, va_rf (some a2))] → W p l e (rmB (d + 6) B) s m args below meth c H locs u22 (20 * u22) (vx_MQ below (hQv G y0 post) (hX G y0 (fun _ _ _ => False)) args s B (20 * B) (HA y0)) (F0 m 49 ls [.int (bi b20), .int (x21)]) := by
          intro y19 u22 b20 x21 hw H locs ls hI hl
          replace hw := hj49 y19 u22 b20 x21 hw
          obtain ⟨hu, hw⟩ := hw
          refine lv_iadd E.1 E.2.1 dX6_runs_49 ?_
          refine lv_topi (fun x23 ex23 => ?_)
          replace hw := hw x23 ex23
          refine lv_istore_n (lv' := [(2, .int (x23)), (0, va_rf (some a0)), (1, va_rf (some a2))]) E.1 E.2.1 dX6_runs_50 rfl hl (Nat.le_of_ble_eq_true rfl) (by first | rfl | decide | (simp [va_rf_cat, int_cat, long_cat]; done) | (simp [va_rf_cat, int_cat, long_cat]; decide)) (fun ls hl => ?_)
          refine hv_aload_n (r := some a2) E.1 E.2.1 dX6_runs_51 rfl (lv_at hl 2 rfl) ?_
          obtain ⟨⟨fs26, hrv⟩, hw⟩ := hw
          have hq := hw
          clear hw
          refine hv_calli (u := u22) (B1 := 0) hI (vx_runV (As := []) (rest := []) E (met_J4_length l G (d + 4) hq) (cwV 0 E.2.2.2.2 (lw_V q367 q368 q369 q131 q370) rfl rfl rfl hd_J4_length (rm_ok (by omega) (by decide))) (hv_preV hK hI hrv rfl) rfl rfl hl.1 rfl (lv_room (by first | rfl | decide | (simp [va_rf_cat, int_cat, long_cat]; done) | (simp [va_rf_cat, int_cat, long_cat]; decide))) dX6_runs_52 (hv_fit (by first | exact hu | omega))) (fun _ _ _ _ _ h => h.elim) (fun x25 y24 H locs hw hI => ?_)
          refine lv_bipush (v := nI 9) E.1 E.2.1 dX6_runs_55 rfl ?_
          refine lv_icmp_ge (tgt := 70) E.1 E.2.1 dX6_runs_57 (by decide) (fun c27 => ?_) (fun c27 => ?_)
          · replace hw := hw.1 (c27)
            refine hv_aload_n (r := some a0) E.1 E.2.1 dX6_runs_70 rfl (lv_at hl 1 rfl) ?_
            refine hv_dup E.1 E.2.1 dX6_runs_71 ?_
            obtain ⟨f28, ⟨fs, hfs, hfk⟩, hw⟩ := hw
            refine hv_get (v := .int f28) E hK hI ciX6 2 (Nat.le_of_ble_eq_true rfl) q279 (fun _ h => h) (Or.inl hfs) hfk dX6_runs_72 ?_
            refine lv_iconst (v := nI 1) E.1 E.2.1 dX6_runs_75 rfl ?_
            refine lv_iadd E.1 E.2.1 dX6_runs_76 ?_
            obtain ⟨fs30, hfs, hln, hw⟩ := hw
            refine hv_put (v := .int (f28 + (nI 1))) E hK hI ciX6 2 (Nat.le_of_ble_eq_true rfl) q279 (fun _ h => h) rfl rfl rfl hfs hln dX6_runs_77 (fun H locs hI => ?_)
            obtain ⟨y29, ey29⟩ : ∃ w, w = hput y24 a0 (ob 4 (fs30.set 2 (.int (f28 + (nI 1))))) := ⟨_, rfl⟩
            rw [← ey29] at hI
            replace hw := hw y29 ey29
            refine lv_goto (tgt := 10) E.1 E.2.1 dX6_runs_80 (by decide) ?_
            obtain ⟨n31, hnn31, hin31⟩ := hw
            exact ih8 n31 hnn31 _ _ _ hin31 _ _ _ hI (lv_sub hl [1, 2, 0] rfl)
          · replace hw := hw.2 (c27)
            refine hv_aload_n (r := some a2) E.1 E.2.1 dX6_runs_60 rfl (lv_at hl 2 rfl) ?_
            refine hv_aload_n (r := some a0) E.1 E.2.1 dX6_runs_61 rfl (lv_at hl 1 rfl) ?_
            obtain ⟨⟨fs34, hrv⟩, hw⟩ := hw
            have hq := hw
            clear hw
            refine hv_calli (u := u22) (B1 := 0) hI (vx_runV (As := []) (rest := [va_rf (some a2)]) E (met_X6_here l htr G (d + 5) hq) (cwV 0 E.2.2.2.2 (lw_V q318 q320 qs2 q129 q321) rfl rfl rfl hd_X6_here (rm_ok (by omega) (by decide))) (hv_preV hK hI hrv rfl) rfl rfl hl.1 rfl (lv_room (by first | rfl | decide | (simp [va_rf_cat, int_cat, long_cat]; done) | (simp [va_rf_cat, int_cat, long_cat]; decide))) dX6_runs_62 (hv_fit (by first | exact hu | omega))) (fun _ _ _ _ _ h => h.elim) (fun x33 y32 H locs hw hI => ?_)
            refine lv_i2c E.1 E.2.1 dX6_runs_65 rfl ?_
            obtain ⟨⟨fs37, hrv⟩, hw⟩ := hw
            have hq := hw
            clear hw
            refine hv_callq (u := u22) (B1 := 0) hI (vx_runV (As := [.int ((x33.toUInt32 % 65536).toInt32)]) (rest := []) E (met_J4_append l G (d + 3) hq) (cwV 1 E.2.2.2.2 (lw_V q374 q375 q376 q131 q377) rfl rfl rfl hd_J4_append (rm_ok (by omega) (by decide))) (hv_preV hK hI hrv rfl) rfl rfl hl.1 rfl (lv_room (by first | rfl | decide | (simp [va_rf_cat, int_cat, long_cat]; done) | (simp [va_rf_cat, int_cat, long_cat]; decide))) dX6_runs_66 (hv_fit (by first | exact hu | omega))) (fun _ _ _ _ _ h => h.elim) (fun r36 y35 H locs hw hI => ?_)
            refine lv_pop E.1 E.2.1 dX6_runs_69 (va_rf_cat _) ?_
            refine hv_aload_n (r := some a0) E.1 E.2.1 dX6_runs_70 rfl (lv_at hl 1 rfl) ?_
            refine hv_dup E.1 E.2.1 dX6_runs_71 ?_
            obtain ⟨f38, ⟨fs, hfs, hfk⟩, hw⟩ := hw
            refine hv_get (v := .int f38) E hK hI ciX6 2 (Nat.le_of_ble_eq_true rfl) q279 (fun _ h => h) (Or.inl hfs) hfk dX6_runs_72 ?_
            refine lv_iconst (v := nI 1) E.1 E.2.1 dX6_runs_75 rfl ?_
            refine lv_iadd E.1 E.2.1 dX6_runs_76 ?_
            obtain ⟨fs40, hfs, hln, hw⟩ := hw
            refine hv_put (v := .int (f38 + (nI 1))) E hK hI ciX6 2 (Nat.le_of_ble_eq_true rfl) q279 (fun _ h => h) rfl rfl rfl hfs hln dX6_runs_77 (fun H locs hI => ?_)
            obtain ⟨y39, ey39⟩ : ∃ w, w = hput y35 a0 (ob 4 (fs40.set 2 (.int (f38 + (nI 1))))) := ⟨_, rfl⟩
            rw [← ey39] at hI
            replace hw := hw y39 ey39
            refine lv_goto (tgt := 10) E.1 E.2.1 dX6_runs_80 (by decide) ?_
            obtain ⟨n41, hnn41, hin41⟩ := hw
            exact ih8 n41 hnn41 _ _ _ hin41 _ _ _ hI (lv_sub hl [1, 2, 0] rfl)
        refine lv_iload_n E.1 E.2.1 dX6_runs_32 rfl (lv_at hl 2 rfl) ?_
        refine hv_aload_n (r := some a0) E.1 E.2.1 dX6_runs_33 rfl (lv_at hl 0 rfl) ?_
        refine hv_aload_n (r := some a0) E.1 E.2.1 dX6_runs_34 rfl (lv_at hl 0 rfl) ?_
        obtain ⟨⟨fs44, hrv⟩, hw⟩ := hw
        have hq := hw
        clear hw
        refine hv_calli (u := u16) (B1 := 0) hI (vx_runV (As := []) (rest := [va_rf (some a0), .int (x10)]) E (met_X6_here l htr G (d + 5) hq) (cwV 0 E.2.2.2.2 (lw_V q318 q320 qs2 q129 q321) rfl rfl rfl hd_X6_here (rm_ok (by omega) (by decide))) (hv_preV hK hI hrv rfl) rfl rfl hl.1 rfl (lv_room (by first | rfl | decide | (simp [va_rf_cat, int_cat, long_cat]; done) | (simp [va_rf_cat, int_cat, long_cat]; decide))) dX6_runs_35 (hv_fit (by first | exact hu | omega))) (fun _ _ _ _ _ h => h.elim) (fun x43 y42 H locs hw hI => ?_)
        obtain ⟨⟨fs47, hrv⟩, hw⟩ := hw
        have hq := hw
        clear hw
        refine hv_callz (u := u16) (B1 := 0) hI (vx_runV (As := [.int (x43)]) (rest := [.int (x10)]) E (met_X6_isLetter l htr G (d + 4) hq) (cwV 1 E.2.2.2.2 (lw_V q322 q324 qs3 q129 q325) rfl rfl rfl hd_X6_isLetter (rm_ok (by omega) (by decide))) (hv_preV hK hI hrv rfl) rfl rfl hl.1 rfl (lv_room (by first | rfl | decide | (simp [va_rf_cat, int_cat, long_cat]; done) | (simp [va_rf_cat, int_cat, long_cat]; decide))) dX6_runs_38 (hv_fit (by first | exact hu | omega))) (fun _ _ _ _ _ h => h.elim) (fun b46 y45 H locs hw hI => ?_)
        refine lv_if_eq (tgt := 48) E.1 E.2.1 dX6_runs_41 (by decide) (fun c48 => ?_) (fun c48 => ?_)
        · replace hw := hw.1 (bi_z c48)
          refine lv_iconst (v := nI 0) E.1 E.2.1 dX6_runs_48 rfl ?_
          exact jh18 _ _ _ _ hw _ _ _ hI (lv_sub hl [0, 1] rfl)
        · replace hw := hw.2 (bi_n c48)
          refine lv_iconst (v := nI 1) E.1 E.2.1 dX6_runs_44 rfl ?_
          refine lv_goto (tgt := 49) E.1 E.2.1 dX6_runs_45 (by decide) ?_
          exact jh18 _ _ _ _ hw _ _ _ hI (lv_sub hl [0, 1] rfl)
      refine hv_aload_n (r := some a0) E.1 E.2.1 dX6_runs_10 rfl (lv_at hl 0 rfl) ?_
      refine hv_aload_n (r := some a0) E.1 E.2.1 dX6_runs_11 rfl (lv_at hl 0 rfl) ?_
      obtain ⟨⟨fs52, hrv⟩, hw⟩ := hw
      have hq := hw
      clear hw
      refine hv_calli (u := u11) (B1 := 0) hI (vx_runV (As := []) (rest := [va_rf (some a0)]) E (met_X6_here l htr G (d + 5) hq) (cwV 0 E.2.2.2.2 (lw_V q318 q320 qs2 q129 q321) rfl rfl rfl hd_X6_here (rm_ok (by omega) (by decide))) (hv_preV hK hI hrv rfl) rfl rfl hl.1 rfl (lv_room (by first | rfl | decide | (simp [va_rf_cat, int_cat, long_cat]; done) | (simp [va_rf_cat, int_cat, long_cat]; decide))) dX6_runs_12 (hv_fit (by first | exact hu | omega))) (fun _ _ _ _ _ h => h.elim) (fun x51 y50 H locs hw hI => ?_)
      obtain ⟨⟨fs55, hrv⟩, hw⟩ := hw
      have hq := hw
      clear hw
      refine hv_callz (u := u11) (B1 := 0) hI (vx_runV (As := [.int (x51)]) (rest := []) E (met_X6_isLetter l htr G (d + 4) hq) (cwV 1 E.2.2.2.2 (lw_V q322 q324 qs3 q129 q325) rfl rfl rfl hd_X6_isLetter (rm_ok (by omega) (by decide))) (hv_preV hK hI hrv rfl) rfl rfl hl.1 rfl (lv_room (by first | rfl | decide | (simp [va_rf_cat, int_cat, long_cat]; done) | (simp [va_rf_cat, int_cat, long_cat]; decide))) dX6_runs_15 (hv_fit (by first | exact hu | omega))) (fun _ _ _ _ _ h => h.elim) (fun b54 y53 H locs hw hI => ?_)
      refine lv_if_ne (tgt := 32) E.1 E.2.1 dX6_runs_18 (by decide) (fun c56 => ?_) (fun c56 => ?_)
      · replace hw := hw.1 (bi_n c56)
        exact jh14 _ _ hw _ _ _ hI (lv_sub hl [0, 1, 2] rfl)
      · replace hw := hw.2 (bi_z c56)
        refine hv_aload_n (r := some a0) E.1 E.2.1 dX6_runs_21 rfl (lv_at hl 0 rfl) ?_
        refine hv_aload_n (r := some a0) E.1 E.2.1 dX6_runs_22 rfl (lv_at hl 0 rfl) ?_
        obtain ⟨⟨fs59, hrv⟩, hw⟩ := hw
        have hq := hw
        clear hw
        refine hv_calli (u := u11) (B1 := 0) hI (vx_runV (As := []) (rest := [va_rf (some a0)]) E (met_X6_here l htr G (d + 5) hq) (cwV 0 E.2.2.2.2 (lw_V q318 q320 qs2 q129 q321) rfl rfl rfl hd_X6_here (rm_ok (by omega) (by decide))) (hv_preV hK hI hrv rfl) rfl rfl hl.1 rfl (lv_room (by first | rfl | decide | (simp [va_rf_cat, int_cat, long_cat]; done) | (simp [va_rf_cat, int_cat, long_cat]; decide))) dX6_runs_23 (hv_fit (by first | exact hu | omega))) (fun _ _ _ _ _ h => h.elim) (fun x58 y57 H locs hw hI => ?_)
        obtain ⟨⟨fs62, hrv⟩, hw⟩ := hw
        have hq := hw
        clear hw
        refine hv_callz (u := u11) (B1 := 0) hI (vx_runV (As := [.int (x58)]) (rest := []) E (met_X6_isDigit l htr G (d + 4) hq) (cwV 1 E.2.2.2.2 (lw_V q327 q329 qs4 q129 q330) rfl rfl rfl hd_X6_isDigit (rm_ok (by omega) (by decide))) (hv_preV hK hI hrv rfl) rfl rfl hl.1 rfl (lv_room (by first | rfl | decide | (simp [va_rf_cat, int_cat, long_cat]; done) | (simp [va_rf_cat, int_cat, long_cat]; decide))) dX6_runs_26 (hv_fit (by first | exact hu | omega))) (fun _ _ _ _ _ h => h.elim) (fun b61 y60 H locs hw hI => ?_)
        refine lv_if_eq (tgt := 83) E.1 E.2.1 dX6_runs_29 (by decide) (fun c63 => ?_) (fun c63 => ?_)
        · replace hw := hw.1 (bi_z c63)
          obtain ⟨J64, hj103, hw⟩ := hw
          have jh65 : ∀ (y66 : HS) (u68 : Nat) (x67 : Int32), J64 y66 u68 x67 → ∀ (H : Heap) (locs : List Loc) (ls : Array Slot), HI G y0 y66 s H locs → lv_has ls 4 [(0, va_rf (some a0)), (1, va_rf (some a2)), (2, .int (x10)), (3, .int (x67))] → W p l e (rmB (d + 6) B) s m args below meth c H locs u68 (20 * u68) (vx_MQ below (hQv G y0 post) (hX G y0 (fun _ _ _ => False)) args s B (20 * B) (HA y0)) (F0 m 115 ls []) := by
            intro y66 u68 x67 hw H locs ls hI hl
            replace hw := hj103 y66 u68 x67 hw
            obtain ⟨hu, hw⟩ := hw
            obtain ⟨J69, hj91, hw⟩ := hw
            have jh70 : ∀ (y71 : HS) (u72 : Nat), J69 y71 u72 → ∀ (H : Heap) (locs : List Loc) (ls : Array Slot), HI G y0 y71 s H locs → lv_has ls 4 [(0, va_rf (some a0)), (1, va_rf (some a2)), (2, .int (x10)), (3, .int (x67))] → W p l e (rmB (d + 6) B) s m args below meth c H locs u72 (20 * u72) (vx_MQ below (hQv G y0 post) (hX G y0 (fun _ _ _ => False)) args s B (20 * B) (HA y0)) (F0 m 140 ls []) := by
              intro y71 u72 hw H locs ls hI hl
              replace hw := hj91 y71 u72 hw
              obtain ⟨hu, hw⟩ := hw
              refine lv_iload_n E.1 E.2.1 dX6_runs_140 rfl (lv_at hl 2 rfl) ?_
              refine lv_iconst (v := nI 1) E.1 E.2.1 dX6_runs_141 rfl ?_
              refine lv_icmp_ne (tgt := 159) E.1 E.2.1 dX6_runs_142 (by decide) (fun c73 => ?_) (fun c73 => ?_)
              · replace hw := hw.1 (c73)
                exact hv_vret E hr hlocks hI hu hw dX6_runs_159
              · replace hw := hw.2 (c73)
                refine lv_iload_n E.1 E.2.1 dX6_runs_145 rfl (lv_at hl 3 rfl) ?_
                refine lv_iconst (v := nI 3) E.1 E.2.1 dX6_runs_146 rfl ?_
                refine lv_icmp_ne (tgt := 159) E.1 E.2.1 dX6_runs_147 (by decide) (fun c74 => ?_) (fun c74 => ?_)
                · replace hw := hw.1 (c74)
                  exact hv_vret E hr hlocks hI hu hw dX6_runs_159
                · replace hw := hw.2 (c74)
                  refine hv_aload_n (r := some a0) E.1 E.2.1 dX6_runs_150 rfl (lv_at hl 0 rfl) ?_
                  refine hv_aload_n (r := some a0) E.1 E.2.1 dX6_runs_151 rfl (lv_at hl 0 rfl) ?_
                  refine hv_aload_n (r := some a2) E.1 E.2.1 dX6_runs_152 rfl (lv_at hl 1 rfl) ?_
                  obtain ⟨⟨fs77, hrv⟩, hw⟩ := hw
                  obtain ⟨k78, hB, hw⟩ := hw
                  have hq := hw
                  clear hw
                  refine hv_callq (u := u72) (B1 := k78) hI (vx_runV (As := [va_rf (some a2)]) (rest := [va_rf (some a0)]) E (met_X6_codeOf l htr G (d) hq) (cwV 1 E.2.2.2.2 (lw_V q559 q561 qs7 q129 q562) rfl rfl rfl hd_X6_codeOf (rm_ok (by omega) (by decide))) (hv_preV hK hI hrv rfl) rfl rfl hl.1 rfl (lv_room (by first | rfl | decide | (simp [va_rf_cat, int_cat, long_cat]; done) | (simp [va_rf_cat, int_cat, long_cat]; decide))) dX6_runs_153 (hv_fit (by first | exact hB | omega))) (fun _ _ _ _ _ h => h.elim) (fun r76 y75 H locs hw hI => ?_)
                  have hu := hB
                  obtain ⟨fs80, hfs, hln, hw⟩ := hw
                  refine hv_put (v := va_rf r76) E hK hI ciX6 4 (Nat.le_of_ble_eq_true rfl) q281 (fun _ h => h) rfl (rf_nar _ _ rfl) (rf_fit _ _ rfl) hfs hln dX6_runs_156 (fun H locs hI => ?_)
                  obtain ⟨y79, ey79⟩ : ∃ w, w = hput y75 a0 (ob 4 (fs80.set 4 (va_rf r76))) := ⟨_, rfl⟩
                  rw [← ey79] at hI
                  replace hw := hw y79 ey79
                  exact hv_vret E hr hlocks hI hu hw dX6_runs_159
            refine lv_iload_n E.1 E.2.1 dX6_runs_115 rfl (lv_at hl 2 rfl) ?_
            refine lv_if_ne (tgt := 140) E.1 E.2.1 dX6_runs_116 (by decide) (fun c81 => ?_) (fun c81 => ?_)
            · replace hw := hw.1 (c81)
              exact jh70 _ _ hw _ _ _ hI (lv_sub hl [0, 1, 2, 3] rfl)
            · replace hw := hw.2 (c81)
              refine lv_iload_n E.1 E.2.1 dX6_runs_119 rfl (lv_at hl 3 rfl) ?_
              refine lv_iconst (v := nI 3) E.1 E.2.1 dX6_runs_120 rfl ?_
              refine lv_icmp_gt (tgt := 140) E.1 E.2.1 dX6_runs_121 (by decide) (fun c82 => ?_) (fun c82 => ?_)
              · replace hw := hw.1 (c82)
                exact jh70 _ _ hw _ _ _ hI (lv_sub hl [0, 1, 2, 3] rfl)
              · replace hw := hw.2 (c82)
                refine hv_aload_n (r := some a0) E.1 E.2.1 dX6_runs_124 rfl (lv_at hl 0 rfl) ?_
                refine hv_aload_n (r := some a0) E.1 E.2.1 dX6_runs_125 rfl (lv_at hl 0 rfl) ?_
                refine hv_aload_n (r := some a2) E.1 E.2.1 dX6_runs_126 rfl (lv_at hl 1 rfl) ?_
                refine lv_iconst (v := nI 0) E.1 E.2.1 dX6_runs_127 rfl ?_
                obtain ⟨⟨fs85, hrv⟩, hw⟩ := hw
                have hq := hw
                clear hw
                refine hv_calli (u := u68) (B1 := 0) hI (vx_runV (As := [va_rf (some a2), .int (nI 0)]) (rest := [va_rf (some a0)]) E (met_X6_numberOf l htr G (d + 1) hq) (cwV 2 E.2.2.2.2 (lw_V q525 q527 qs6 q129 q528) rfl rfl rfl hd_X6_numberOf (rm_ok (by omega) (by decide))) (hv_preV hK hI hrv rfl) rfl rfl hl.1 rfl (lv_room (by first | rfl | decide | (simp [va_rf_cat, int_cat, long_cat]; done) | (simp [va_rf_cat, int_cat, long_cat]; decide))) dX6_runs_128 (hv_fit (by first | exact hu | omega))) (fun _ _ _ _ _ h => h.elim) (fun x84 y83 H locs hw hI => ?_)
                obtain ⟨k88, hB, hw⟩ := hw
                have hq := hw
                clear hw
                refine hv_callq (u := u68) (B1 := k88) hI (vx_runS (As := [.int (x84)]) (rest := [va_rf (some a0)]) E (met_J13_valueOf l G (d + 2) hq) (va_cwS 1 E.2.2.2.2 (lw_S q539 q540 q141 q541) rfl rfl rfl hs_J13_valueOf (rm_ok (by omega) (by decide))) (hv_preS hK hI) rfl rfl hl.1 rfl (lv_room (by first | rfl | decide | (simp [va_rf_cat, int_cat, long_cat]; done) | (simp [va_rf_cat, int_cat, long_cat]; decide))) dX6_runs_131 (hv_fit (by first | exact hB | omega))) (fun _ _ _ _ _ h => h.elim) (fun r87 y86 H locs hw hI => ?_)
                have hu := hB
                obtain ⟨fs90, hfs, hln, hw⟩ := hw
                refine hv_put (v := va_rf r87) E hK hI ciX6 4 (Nat.le_of_ble_eq_true rfl) q281 (fun _ h => h) rfl (rf_nar _ _ rfl) (rf_fit _ _ rfl) hfs hln dX6_runs_134 (fun H locs hI => ?_)
                obtain ⟨y89, ey89⟩ : ∃ w, w = hput y86 a0 (ob 4 (fs90.set 4 (va_rf r87))) := ⟨_, rfl⟩
                rw [← ey89] at hI
                replace hw := hw y89 ey89
                refine lv_goto (tgt := 159) E.1 E.2.1 dX6_runs_137 (by decide) ?_
                exact hv_vret E hr hlocks hI hu hw dX6_runs_159
          refine hv_aload_n (r := some a0) E.1 E.2.1 dX6_runs_83 rfl (lv_at hl 0 rfl) ?_
          obtain ⟨f92, ⟨fs, hfs, hfk⟩, hw⟩ := hw
          refine hv_get (v := .int f92) E hK hI ciX6 2 (Nat.le_of_ble_eq_true rfl) q279 (fun _ h => h) (Or.inl hfs) hfk dX6_runs_84 ?_
          refine hv_aload_n (r := some a0) E.1 E.2.1 dX6_runs_87 rfl (lv_at hl 0 rfl) ?_
          obtain ⟨f93, ⟨fs, hfs, hfk⟩, hw⟩ := hw
          refine hv_get (v := .int f93) E hK hI ciX6 3 (Nat.le_of_ble_eq_true rfl) q280 (fun _ h => h) (Or.inl hfs) hfk dX6_runs_88 ?_
          refine lv_isub E.1 E.2.1 dX6_runs_91 ?_
          refine lv_topi (fun x94 ex94 => ?_)
          replace hw := hw x94 ex94
          refine lv_istore_n (lv' := [(3, .int (x94)), (0, va_rf (some a0)), (1, va_rf (some a2)), (2, .int (x10))]) E.1 E.2.1 dX6_runs_92 rfl hl (Nat.le_of_ble_eq_true rfl) (by first | rfl | decide | (simp [va_rf_cat, int_cat, long_cat]; done) | (simp [va_rf_cat, int_cat, long_cat]; decide)) (fun ls hl => ?_)
          refine lv_iload_n E.1 E.2.1 dX6_runs_93 rfl (lv_at hl 3 rfl) ?_
          refine lv_iload_n E.1 E.2.1 dX6_runs_94 rfl (lv_at hl 0 rfl) ?_
          refine lv_icmp_ne (tgt := 115) E.1 E.2.1 dX6_runs_95 (by decide) (fun c95 => ?_) (fun c95 => ?_)
          · replace hw := hw.1 (c95)
            exact jh65 _ _ _ hw _ _ _ hI (lv_sub hl [1, 2, 3, 0] rfl)
          · replace hw := hw.2 (c95)
            refine lv_iload_n E.1 E.2.1 dX6_runs_98 rfl (lv_at hl 0 rfl) ?_
            refine lv_bipush (v := nI 8) E.1 E.2.1 dX6_runs_99 rfl ?_
            refine lv_icmp_gt (tgt := 115) E.1 E.2.1 dX6_runs_101 (by decide) (fun c96 => ?_) (fun c96 => ?_)
            · replace hw := hw.1 (c96)
              exact jh65 _ _ _ hw _ _ _ hI (lv_sub hl [1, 2, 3, 0] rfl)
            · replace hw := hw.2 (c96)
              refine hv_aload_n (r := some a0) E.1 E.2.1 dX6_runs_104 rfl (lv_at hl 1 rfl) ?_
              refine hv_aload_n (r := some a2) E.1 E.2.1 dX6_runs_105 rfl (lv_at hl 2 rfl) ?_
              obtain ⟨⟨fs99, hrv⟩, hw⟩ := hw
              obtain ⟨k100, hB, hw⟩ := hw
              have hq := hw
              clear hw
              refine hv_callq (u := u11) (B1 := k100) hI (vx_runV (As := []) (rest := [va_rf (some a0)]) E (met_J4_toString l G (d) hq) (cwV 0 E.2.2.2.2 (lw_V q469 q470 q471 q131 q472) rfl rfl rfl hd_J4_toString (rm_ok (by omega) (by decide))) (hv_preV hK hI hrv rfl) rfl rfl hl.1 rfl (lv_room (by first | rfl | decide | (simp [va_rf_cat, int_cat, long_cat]; done) | (simp [va_rf_cat, int_cat, long_cat]; decide))) dX6_runs_106 (hv_fit (by first | exact hB | omega))) (fun _ _ _ _ _ h => h.elim) (fun r98 y97 H locs hw hI => ?_)
              have hu := hB
              obtain ⟨fs102, hfs, hln, hw⟩ := hw
              refine hv_put (v := va_rf r98) E hK hI ciX6 4 (Nat.le_of_ble_eq_true rfl) q281 (fun _ h => h) rfl (rf_nar _ _ rfl) (rf_fit _ _ rfl) hfs hln dX6_runs_109 (fun H locs hI => ?_)
              obtain ⟨y101, ey101⟩ : ∃ w, w = hput y97 a0 (ob 4 (fs102.set 4 (va_rf r98))) := ⟨_, rfl⟩
              rw [← ey101] at hI
              replace hw := hw y101 ey101
              refine lv_goto (tgt := 159) E.1 E.2.1 dX6_runs_112 (by decide) ?_
              exact hv_vret E hr hlocks hI hu hw dX6_runs_159
        · replace hw := hw.2 (bi_n c63)
          exact jh14 _ _ hw _ _ _ hI (lv_sub hl [0, 1, 2] rfl)
  exact L9 n12 _ _ _ hi106 _ _ _ hI (lv_sub hl [2, 1, 0] rfl)
/-- CaseGrouper$Reader.next()V -/
def wp_X6_next (G : GP) (B : Nat) (post : HS → Prop) (y0 : HS) (a0 : Nat) : Prop := ∃ I1 : Nat → HS → Nat → Prop, (∃ n7, I1 n7 y0 0 ) ∧ ∀ (n2 : Nat) (y3 : HS) (u6 : Nat), I1 n2 y3 u6 → u6 ≤ B ∧ (∃ fs10, rd G y3 a0 (ob 4 fs10)) ∧ wp_X6_here G (fun x9 y8 => (x9 = (nI 32) → ∃ f12, fI y8 a0 4 2 f12 ∧ ∃ fs14, y8.1 a0 = some (ob 4 fs14) ∧ 2 < fs14.length ∧ ∀ y13, y13 = hput y8 a0 (ob 4 (fs14.set 2 (.int (f12 + (nI 1))))) → ∃ n15, n15 < n2 ∧ I1 n15 y13 u6 ) ∧ (¬ x9 = (nI 32) → (∃ fs18, rd G y8 a0 (ob 4 fs18)) ∧ wp_X6_here G (fun x17 y16 => (¬ x17 = (nI 10) → ∃ J20 : HS → Nat → Int32 → Bool → (Option Nat) → Prop, (∀ (y22 : HS) (u26 : Nat) (x23 : Int32) (b24 : Bool) (r25 : Option Nat), J20 y22 u26 x23 b24 r25 → u26 ≤ B ∧ ∃ a27, r25 = some a27 ∧ ∃ fs29, y22.1 a27 = some (ob 4 fs29) ∧ 5 < fs29.length ∧ ∀ y28, y28 = hput y22 a27 (ob 4 (fs29.set 5 (.int (bi b24)))) → ∃ fs31, y28.1 a0 = some (ob 4 fs31) ∧ 4 < fs31.length ∧ ∀ y30, y30 = hput y28 a0 (ob 4 (fs31.set 4 (va_rf none))) → ∃ f32, fI y30 a0 4 5 f32 ∧ (f32 = 0 → ∃ J34 : HS → Nat → Prop, (∀ (y36 : HS) (u37 : Nat), J34 y36 u37 → u37 ≤ B ∧ (∃ fs39, rd G y36 a0 (ob 4 fs39)) ∧ ∃ k40, u37 + k40 ≤ B ∧ wp_X6_runs G k40 (fun y38 => post y38) y36 a0) ∧ ((∃ fs43, rd G y30 a0 (ob 4 fs43)) ∧ wp_X6_isLetter G (fun b42 y41 => (b42 = true → J34 y41 u26 ) ∧ (b42 = false → (∃ fs47, rd G y41 a0 (ob 4 fs47)) ∧ wp_X6_isDigit G (fun b46 y45 => (b46 = false → ∃ J49 : HS → Nat → Prop, (∀ (y51 : HS) (u52 : Nat), J49 y51 u52 → u52 ≤ B ∧ ∃ k55, u52 + k55 ≤ B ∧ wp_J14_valueOf G k55 (fun r54 y53 => ∃ fs57, y53.1 a0 = some (ob 4 fs57) ∧ 4 < fs57.length ∧ ∀ y56, y56 = hput y53 a0 (ob 4 (fs57.set 4 (va_rf r54))) → post y56) y51 ((x23.toUInt32 % 65536).toInt32)) ∧ (∃ f58, fI y45 a0 4 2 f58 ∧ ∃ fs60, y45.1 a0 = some (ob 4 fs60) ∧ 2 < fs60.length ∧ ∀ y59, y59 = hput y45 a0 (ob 4 (fs60.set 2 (.int (f58 + (nI 1))))) → (x23 = (nI 40) → J49 y59 u26 ) ∧ (¬ x23 = (nI 40) → (x23 = (nI 41) → J49 y59 u26 ) ∧ (¬ x23 = (nI 41) → (x23 = (nI 44) → J49 y59 u26 ) ∧ (¬ x23 = (nI 44) → (x23 = (nI 59) → J49 y59 u26 ) ∧ (¬ x23 = (nI 59) → (x23 = (nI 60) → J49 y59 u26 ) ∧ (¬ x23 = (nI 60) → (¬ x23 = (nI 62) → post y59) ∧ (x23 = (nI 62) → J49 y59 u26 )))))))) ∧ (b46 = true → J34 y45 u26 )) y41 a0 x23)) y30 a0 x23)) ∧ (¬ f32 = 0 → post y30)) ∧ (∃ f69, fI y16 a0 4 2 f69 ∧ ∃ fs71, y16.1 a0 = some (ob 4 fs71) ∧ 3 < fs71.length ∧ ∀ y70, y70 = hput y16 a0 (ob 4 (fs71.set 3 (.int (f69)))) → (∃ fs74, rd G y70 a0 (ob 4 fs74)) ∧ wp_X6_here G (fun x73 y72 => (0 ≤ x73 → J20 y72 u6 x73 false (some a0)) ∧ (¬ 0 ≤ x73 → J20 y72 u6 x73 true (some a0))) y70 a0)) ∧ (x17 = (nI 10) → ∃ f77, fI y16 a0 4 2 f77 ∧ ∃ fs79, y16.1 a0 = some (ob 4 fs79) ∧ 2 < fs79.length ∧ ∀ y78, y78 = hput y16 a0 (ob 4 (fs79.set 2 (.int (f77 + (nI 1))))) → ∃ n80, n80 < n2 ∧ I1 n80 y78 u6 )) y8 a0)) y3 a0
theorem hs_X6_next : yX6_next.cls ≠ "java/lang/invoke/MethodHandle" ∧ yX6_next.cls ≠ "java/lang/invoke/VarHandle" ∧ (parseMethodDescriptor yX6_next.desc).map (fun d => d.parameters.length) = some 0 := by decide +kernel
theorem hd_X6_next : yX6_next.cls = RX6 ∧ yX6_next.cls ≠ "java/lang/invoke/MethodHandle" ∧ yX6_next.cls ≠ "java/lang/invoke/VarHandle" ∧ (parseMethodDescriptor yX6_next.desc).map (fun d => d.parameters.length) = some 0 := by decide +kernel
set_option maxHeartbeats 4000000 in
theorem met_X6_next (l : Launch) (htr : l.stackTraces = false) (G : GP) (d : Nat) {B : Nat} {post : HS → Prop} {y0 : HS} {a0 : Nat} (hw : wp_X6_next G B post y0 a0) : vx_Met l yX6_next (ws_ yX6_next cX6_next 2 none) (rmB (d + 7) B) (hPc G y0 [va_rf (some a0)]) (hQv G y0 post) (hX G y0 (fun _ _ _ => False)) B (20 * B) (HA y0) := by
  unfold wp_X6_next at hw
  refine hv_met (own := RX6) (by decide) rfl (Nat.le_of_ble_eq_true rfl) ?_
  intro p e s m args below meth c ls E hr hlocks hnm hE hK hI hl
  replace hl : lv_has ls 2 [(0, va_rf (some a0))] := hl
  have hu : 0 ≤ B := Nat.zero_le _
  obtain ⟨I1, ⟨n7, hi82⟩, hb81⟩ := hw
  have L5 : ∀ (n2 : Nat) (y3 : HS) (u6 : Nat), I1 n2 y3 u6 → ∀ (H : Heap) (locs : List Loc) (ls : Array Slot), HI G y0 y3 s H locs → lv_has ls 2 [(0, va_rf (some a0))] → W p l e (rmB (d + 7) B) s m args below meth c H locs u6 (20 * u6) (vx_MQ below (hQv G y0 post) (hX G y0 (fun _ _ _ => False)) args s B (20 * B) (HA y0)) (F0 m 0 ls []) := by
    intro n2
    induction n2 using Nat.strongRecOn with
    | _ n2 ih4 =>
      intro y3 u6 hw H locs ls hI hl
      replace hw := hb81 n2 y3 u6 hw
      obtain ⟨hu, hw⟩ := hw
      refine hv_aload_n (r := some a0) E.1 E.2.1 dX6_next_0 rfl (lv_at hl 0 rfl) ?_
      obtain ⟨⟨fs10, hrv⟩, hw⟩ := hw
      have hq := hw
      clear hw
      refine hv_calli (u := u6) (B1 := 0) hI (vx_runV (As := []) (rest := []) E (met_X6_here l htr G (d + 6) hq) (cwV 0 E.2.2.2.2 (lw_V q318 q320 qs2 q129 q321) rfl rfl rfl hd_X6_here (rm_ok (by omega) (by decide))) (hv_preV hK hI hrv rfl) rfl rfl hl.1 rfl (lv_room (by first | rfl | decide | (simp [va_rf_cat, int_cat, long_cat]; done) | (simp [va_rf_cat, int_cat, long_cat]; decide))) dX6_next_1 (hv_fit (by first | exact hu | omega))) (fun _ _ _ _ _ h => h.elim) (fun x9 y8 H locs hw hI => ?_)
      refine lv_bipush (v := nI 32) E.1 E.2.1 dX6_next_4 rfl ?_
      refine lv_icmp_eq (tgt := 18) E.1 E.2.1 dX6_next_6 (by decide) (fun c11 => ?_) (fun c11 => ?_)
      · replace hw := hw.1 (c11)
        refine hv_aload_n (r := some a0) E.1 E.2.1 dX6_next_18 rfl (lv_at hl 0 rfl) ?_
        refine hv_dup E.1 E.2.1 dX6_next_19 ?_
        obtain ⟨f12, ⟨fs, hfs, hfk⟩, hw⟩ := hw
        refine hv_get (v := .int f12) E hK hI ciX6 2 (Nat.le_of_ble_eq_true rfl) q279 (fun _ h => h) (Or.inl hfs) hfk dX6_next_20 ?_
        refine lv_iconst (v := nI 1) E.1 E.2.1 dX6_next_23 rfl ?_
        refine lv_iadd E.1 E.2.1 dX6_next_24 ?_
        obtain ⟨fs14, hfs, hln, hw⟩ := hw
        refine hv_put (v := .int (f12 + (nI 1))) E hK hI ciX6 2 (Nat.le_of_ble_eq_true rfl) q279 (fun _ h => h) rfl rfl rfl hfs hln dX6_next_25 (fun H locs hI => ?_)
        obtain ⟨y13, ey13⟩ : ∃ w, w = hput y8 a0 (ob 4 (fs14.set 2 (.int (f12 + (nI 1))))) := ⟨_, rfl⟩
        rw [← ey13] at hI
        replace hw := hw y13 ey13
        refine lv_goto (tgt := 0) E.1 E.2.1 dX6_next_28 (by decide) ?_
        obtain ⟨n15, hnn15, hin15⟩ := hw
        exact ih4 n15 hnn15 _ _ hin15 _ _ _ hI (lv_sub hl [0] rfl)
      · replace hw := hw.2 (c11)
        refine hv_aload_n (r := some a0) E.1 E.2.1 dX6_next_9 rfl (lv_at hl 0 rfl) ?_
        obtain ⟨⟨fs18, hrv⟩, hw⟩ := hw
        have hq := hw
        clear hw
        refine hv_calli (u := u6) (B1 := 0) hI (vx_runV (As := []) (rest := []) E (met_X6_here l htr G (d + 6) hq) (cwV 0 E.2.2.2.2 (lw_V q318 q320 qs2 q129 q321) rfl rfl rfl hd_X6_here (rm_ok (by omega) (by decide))) (hv_preV hK hI hrv rfl) rfl rfl hl.1 rfl (lv_room (by first | rfl | decide | (simp [va_rf_cat, int_cat, long_cat]; done) | (simp [va_rf_cat, int_cat, long_cat]; decide))) dX6_next_10 (hv_fit (by first | exact hu | omega))) (fun _ _ _ _ _ h => h.elim) (fun x17 y16 H locs hw hI => ?_)
        refine lv_bipush (v := nI 10) E.1 E.2.1 dX6_next_13 rfl ?_
        refine lv_icmp_ne (tgt := 31) E.1 E.2.1 dX6_next_15 (by decide) (fun c19 => ?_) (fun c19 => ?_)
        · replace hw := hw.1 (c19)
          obtain ⟨J20, hj76, hw⟩ := hw
          have jh21 : ∀ (y22 : HS) (u26 : Nat) (x23 : Int32) (b24 : Bool) (r25 : Option Nat), J20 y22 u26 x23 b24 r25 → ∀ (H : Heap) (locs : List Loc) (ls : Array Slot), HI G y0 y22 s H locs → lv_has ls 2 [(0, va_rf (some a0)), (1, .int (x23))] → W p l e (rmB (d + 7) B) s m args below meth c H locs u26 (20 * u26) (vx_MQ below (hQv G y0 post) (hX G y0 (fun _ _ _ => False)) args s B (20 * B) (HA y0)) (F0 m 54 ls [.int (bi b24), va_rf r25]) := by
            intro y22 u26 x23 b24 r25 hw H locs ls hI hl
            replace hw := hj76 y22 u26 x23 b24 r25 hw
            obtain ⟨hu, hw⟩ := hw
            obtain ⟨a27, ea27, hw⟩ := hw
            revert hl hw; subst ea27; intro hl hw
            obtain ⟨fs29, hfs, hln, hw⟩ := hw
            refine hv_put (v := .int (bi b24)) E hK hI ciX6 5 (Nat.le_of_ble_eq_true rfl) q282 (fun _ h => h) rfl (bi_nar _) (bi_fit _) hfs hln dX6_next_54 (fun H locs hI => ?_)
            obtain ⟨y28, ey28⟩ : ∃ w, w = hput y22 a27 (ob 4 (fs29.set 5 (.int (bi b24)))) := ⟨_, rfl⟩
            rw [← ey28] at hI
            replace hw := hw y28 ey28
            refine hv_aload_n (r := some a0) E.1 E.2.1 dX6_next_57 rfl (lv_at hl 0 rfl) ?_
            refine lv_null E.1 E.2.1 dX6_next_58 ?_
            obtain ⟨fs31, hfs, hln, hw⟩ := hw
            refine hv_put (v := va_rf none) E hK hI ciX6 4 (Nat.le_of_ble_eq_true rfl) q281 (fun _ h => h) rfl (rf_nar _ _ rfl) (rf_fit _ _ rfl) hfs hln dX6_next_59 (fun H locs hI => ?_)
            obtain ⟨y30, ey30⟩ : ∃ w, w = hput y28 a0 (ob 4 (fs31.set 4 (va_rf none))) := ⟨_, rfl⟩
            rw [← ey30] at hI
            replace hw := hw y30 ey30
            refine hv_aload_n (r := some a0) E.1 E.2.1 dX6_next_62 rfl (lv_at hl 0 rfl) ?_
            obtain ⟨f32, ⟨fs, hfs, hfk⟩, hw⟩ := hw
            refine hv_get (v := .int f32) E hK hI ciX6 5 (Nat.le_of_ble_eq_true rfl) q282 (fun _ h => h) (Or.inl hfs) hfk dX6_next_63 ?_
            refine lv_if_eq (tgt := 70) E.1 E.2.1 dX6_next_66 (by decide) (fun c33 => ?_) (fun c33 => ?_)
            · replace hw := hw.1 (c33)
              obtain ⟨J34, hj68, hw⟩ := hw
              have jh35 : ∀ (y36 : HS) (u37 : Nat), J34 y36 u37 → ∀ (H : Heap) (locs : List Loc) (ls : Array Slot), HI G y0 y36 s H locs → lv_has ls 2 [(0, va_rf (some a0))] → W p l e (rmB (d + 7) B) s m args below meth c H locs u37 (20 * u37) (vx_MQ below (hQv G y0 post) (hX G y0 (fun _ _ _ => False)) args s B (20 * B) (HA y0)) (F0 m 86 ls []) := by
                intro y36 u37 hw H locs ls hI hl
                replace hw := hj68 y36 u37 hw
                obtain ⟨hu, hw⟩ := hw
                refine hv_aload_n (r := some a0) E.1 E.2.1 dX6_next_86 rfl (lv_at hl 0 rfl) ?_
                obtain ⟨⟨fs39, hrv⟩, hw⟩ := hw
                obtain ⟨k40, hB, hw⟩ := hw
                have hq := hw
                clear hw
                refine hv_callv (u := u37) (B1 := k40) hI (vx_runV (As := []) (rest := []) E (met_X6_runs l htr G (d) hq) (cwV 0 E.2.2.2.2 (lw_V q331 q333 qs5 q129 q334) rfl rfl rfl hd_X6_runs (rm_ok (by omega) (by decide))) (hv_preV hK hI hrv rfl) rfl rfl hl.1 rfl (lv_room (by first | rfl | decide | (simp [va_rf_cat, int_cat, long_cat]; done) | (simp [va_rf_cat, int_cat, long_cat]; decide))) dX6_next_87 (hv_fit (by first | exact hB | omega))) (fun _ _ _ _ _ h => h.elim) (fun y38 H locs hw hI => ?_)
                have hu := hB
                exact hv_vret E hr hlocks hI hu hw dX6_next_90
              refine hv_aload_n (r := some a0) E.1 E.2.1 dX6_next_70 rfl (lv_at hl 0 rfl) ?_
              refine lv_iload_n E.1 E.2.1 dX6_next_71 rfl (lv_at hl 1 rfl) ?_
              obtain ⟨⟨fs43, hrv⟩, hw⟩ := hw
              have hq := hw
              clear hw
              refine hv_callz (u := u26) (B1 := 0) hI (vx_runV (As := [.int (x23)]) (rest := []) E (met_X6_isLetter l htr G (d + 5) hq) (cwV 1 E.2.2.2.2 (lw_V q322 q324 qs3 q129 q325) rfl rfl rfl hd_X6_isLetter (rm_ok (by omega) (by decide))) (hv_preV hK hI hrv rfl) rfl rfl hl.1 rfl (lv_room (by first | rfl | decide | (simp [va_rf_cat, int_cat, long_cat]; done) | (simp [va_rf_cat, int_cat, long_cat]; decide))) dX6_next_72 (hv_fit (by first | exact hu | omega))) (fun _ _ _ _ _ h => h.elim) (fun b42 y41 H locs hw hI => ?_)
              refine lv_if_ne (tgt := 86) E.1 E.2.1 dX6_next_75 (by decide) (fun c44 => ?_) (fun c44 => ?_)
              · replace hw := hw.1 (bi_n c44)
                exact jh35 _ _ hw _ _ _ hI (lv_sub hl [0] rfl)
              · replace hw := hw.2 (bi_z c44)
                refine hv_aload_n (r := some a0) E.1 E.2.1 dX6_next_78 rfl (lv_at hl 0 rfl) ?_
                refine lv_iload_n E.1 E.2.1 dX6_next_79 rfl (lv_at hl 1 rfl) ?_
                obtain ⟨⟨fs47, hrv⟩, hw⟩ := hw
                have hq := hw
                clear hw
                refine hv_callz (u := u26) (B1 := 0) hI (vx_runV (As := [.int (x23)]) (rest := []) E (met_X6_isDigit l htr G (d + 5) hq) (cwV 1 E.2.2.2.2 (lw_V q327 q329 qs4 q129 q330) rfl rfl rfl hd_X6_isDigit (rm_ok (by omega) (by decide))) (hv_preV hK hI hrv rfl) rfl rfl hl.1 rfl (lv_room (by first | rfl | decide | (simp [va_rf_cat, int_cat, long_cat]; done) | (simp [va_rf_cat, int_cat, long_cat]; decide))) dX6_next_80 (hv_fit (by first | exact hu | omega))) (fun _ _ _ _ _ h => h.elim) (fun b46 y45 H locs hw hI => ?_)
                refine lv_if_eq (tgt := 91) E.1 E.2.1 dX6_next_83 (by decide) (fun c48 => ?_) (fun c48 => ?_)
                · replace hw := hw.1 (bi_z c48)
                  obtain ⟨J49, hj67, hw⟩ := hw
                  have jh50 : ∀ (y51 : HS) (u52 : Nat), J49 y51 u52 → ∀ (H : Heap) (locs : List Loc) (ls : Array Slot), HI G y0 y51 s H locs → lv_has ls 2 [(0, va_rf (some a0)), (1, .int (x23))] → W p l e (rmB (d + 7) B) s m args below meth c H locs u52 (20 * u52) (vx_MQ below (hQv G y0 post) (hX G y0 (fun _ _ _ => False)) args s B (20 * B) (HA y0)) (F0 m 137 ls []) := by
                    intro y51 u52 hw H locs ls hI hl
                    replace hw := hj67 y51 u52 hw
                    obtain ⟨hu, hw⟩ := hw
                    refine hv_aload_n (r := some a0) E.1 E.2.1 dX6_next_137 rfl (lv_at hl 0 rfl) ?_
                    refine lv_iload_n E.1 E.2.1 dX6_next_138 rfl (lv_at hl 1 rfl) ?_
                    refine lv_i2c E.1 E.2.1 dX6_next_139 rfl ?_
                    obtain ⟨k55, hB, hw⟩ := hw
                    have hq := hw
                    clear hw
                    refine hv_callq (u := u52) (B1 := k55) hI (vx_runS (As := [.int ((x23.toUInt32 % 65536).toInt32)]) (rest := [va_rf (some a0)]) E (met_J14_valueOf l G (d + 4) hq) (va_cwS 1 E.2.2.2.2 (lw_S q574 q575 q144 q576) rfl rfl rfl hs_J14_valueOf (rm_ok (by omega) (by decide))) (hv_preS hK hI) rfl rfl hl.1 rfl (lv_room (by first | rfl | decide | (simp [va_rf_cat, int_cat, long_cat]; done) | (simp [va_rf_cat, int_cat, long_cat]; decide))) dX6_next_140 (hv_fit (by first | exact hB | omega))) (fun _ _ _ _ _ h => h.elim) (fun r54 y53 H locs hw hI => ?_)
                    have hu := hB
                    obtain ⟨fs57, hfs, hln, hw⟩ := hw
                    refine hv_put (v := va_rf r54) E hK hI ciX6 4 (Nat.le_of_ble_eq_true rfl) q281 (fun _ h => h) rfl (rf_nar _ _ rfl) (rf_fit _ _ rfl) hfs hln dX6_next_143 (fun H locs hI => ?_)
                    obtain ⟨y56, ey56⟩ : ∃ w, w = hput y53 a0 (ob 4 (fs57.set 4 (va_rf r54))) := ⟨_, rfl⟩
                    rw [← ey56] at hI
                    replace hw := hw y56 ey56
                    exact hv_vret E hr hlocks hI hu hw dX6_next_146
                  refine hv_aload_n (r := some a0) E.1 E.2.1 dX6_next_91 rfl (lv_at hl 0 rfl) ?_
                  refine hv_dup E.1 E.2.1 dX6_next_92 ?_
                  obtain ⟨f58, ⟨fs, hfs, hfk⟩, hw⟩ := hw
                  refine hv_get (v := .int f58) E hK hI ciX6 2 (Nat.le_of_ble_eq_true rfl) q279 (fun _ h => h) (Or.inl hfs) hfk dX6_next_93 ?_
                  refine lv_iconst (v := nI 1) E.1 E.2.1 dX6_next_96 rfl ?_
                  refine lv_iadd E.1 E.2.1 dX6_next_97 ?_
                  obtain ⟨fs60, hfs, hln, hw⟩ := hw
                  refine hv_put (v := .int (f58 + (nI 1))) E hK hI ciX6 2 (Nat.le_of_ble_eq_true rfl) q279 (fun _ h => h) rfl rfl rfl hfs hln dX6_next_98 (fun H locs hI => ?_)
                  obtain ⟨y59, ey59⟩ : ∃ w, w = hput y45 a0 (ob 4 (fs60.set 2 (.int (f58 + (nI 1))))) := ⟨_, rfl⟩
                  rw [← ey59] at hI
                  replace hw := hw y59 ey59
                  refine lv_iload_n E.1 E.2.1 dX6_next_101 rfl (lv_at hl 1 rfl) ?_
                  refine lv_bipush (v := nI 40) E.1 E.2.1 dX6_next_102 rfl ?_
                  refine lv_icmp_eq (tgt := 137) E.1 E.2.1 dX6_next_104 (by decide) (fun c61 => ?_) (fun c61 => ?_)
                  · replace hw := hw.1 (c61)
                    exact jh50 _ _ hw _ _ _ hI (lv_sub hl [0, 1] rfl)
                  · replace hw := hw.2 (c61)
                    refine lv_iload_n E.1 E.2.1 dX6_next_107 rfl (lv_at hl 1 rfl) ?_
                    refine lv_bipush (v := nI 41) E.1 E.2.1 dX6_next_108 rfl ?_
                    refine lv_icmp_eq (tgt := 137) E.1 E.2.1 dX6_next_110 (by decide) (fun c62 => ?_) (fun c62 => ?_)
                    · replace hw := hw.1 (c62)
                      exact jh50 _ _ hw _ _ _ hI (lv_sub hl [0, 1] rfl)
                    · replace hw := hw.2 (c62)
                      refine lv_iload_n E.1 E.2.1 dX6_next_113 rfl (lv_at hl 1 rfl) ?_
                      refine lv_bipush (v := nI 44) E.1 E.2.1 dX6_next_114 rfl ?_
                      refine lv_icmp_eq (tgt := 137) E.1 E.2.1 dX6_next_116 (by decide) (fun c63 => ?_) (fun c63 => ?_)
                      · replace hw := hw.1 (c63)
                        exact jh50 _ _ hw _ _ _ hI (lv_sub hl [0, 1] rfl)
                      · replace hw := hw.2 (c63)
                        refine lv_iload_n E.1 E.2.1 dX6_next_119 rfl (lv_at hl 1 rfl) ?_
                        refine lv_bipush (v := nI 59) E.1 E.2.1 dX6_next_120 rfl ?_
                        refine lv_icmp_eq (tgt := 137) E.1 E.2.1 dX6_next_122 (by decide) (fun c64 => ?_) (fun c64 => ?_)
                        · replace hw := hw.1 (c64)
                          exact jh50 _ _ hw _ _ _ hI (lv_sub hl [0, 1] rfl)
                        · replace hw := hw.2 (c64)
                          refine lv_iload_n E.1 E.2.1 dX6_next_125 rfl (lv_at hl 1 rfl) ?_
                          refine lv_bipush (v := nI 60) E.1 E.2.1 dX6_next_126 rfl ?_
                          refine lv_icmp_eq (tgt := 137) E.1 E.2.1 dX6_next_128 (by decide) (fun c65 => ?_) (fun c65 => ?_)
                          · replace hw := hw.1 (c65)
                            exact jh50 _ _ hw _ _ _ hI (lv_sub hl [0, 1] rfl)
                          · replace hw := hw.2 (c65)
                            refine lv_iload_n E.1 E.2.1 dX6_next_131 rfl (lv_at hl 1 rfl) ?_
                            refine lv_bipush (v := nI 62) E.1 E.2.1 dX6_next_132 rfl ?_
                            refine lv_icmp_ne (tgt := 146) E.1 E.2.1 dX6_next_134 (by decide) (fun c66 => ?_) (fun c66 => ?_)
                            · replace hw := hw.1 (c66)
                              exact hv_vret E hr hlocks hI hu hw dX6_next_146
                            · replace hw := hw.2 (c66)
                              exact jh50 _ _ hw _ _ _ hI (lv_sub hl [0, 1] rfl)
                · replace hw := hw.2 (bi_n c48)
                  exact jh35 _ _ hw _ _ _ hI (lv_sub hl [0] rfl)
            · replace hw := hw.2 (c33)
              exact hv_vret E hr hlocks hI hu hw dX6_next_69
          refine hv_aload_n (r := some a0) E.1 E.2.1 dX6_next_31 rfl (lv_at hl 0 rfl) ?_
          refine hv_aload_n (r := some a0) E.1 E.2.1 dX6_next_32 rfl (lv_at hl 0 rfl) ?_
          obtain ⟨f69, ⟨fs, hfs, hfk⟩, hw⟩ := hw
          refine hv_get (v := .int f69) E hK hI ciX6 2 (Nat.le_of_ble_eq_true rfl) q279 (fun _ h => h) (Or.inl hfs) hfk dX6_next_33 ?_
          obtain ⟨fs71, hfs, hln, hw⟩ := hw
          refine hv_put (v := .int (f69)) E hK hI ciX6 3 (Nat.le_of_ble_eq_true rfl) q280 (fun _ h => h) rfl rfl rfl hfs hln dX6_next_36 (fun H locs hI => ?_)
          obtain ⟨y70, ey70⟩ : ∃ w, w = hput y16 a0 (ob 4 (fs71.set 3 (.int (f69)))) := ⟨_, rfl⟩
          rw [← ey70] at hI
          replace hw := hw y70 ey70
          refine hv_aload_n (r := some a0) E.1 E.2.1 dX6_next_39 rfl (lv_at hl 0 rfl) ?_
          obtain ⟨⟨fs74, hrv⟩, hw⟩ := hw
          have hq := hw
          clear hw
          refine hv_calli (u := u6) (B1 := 0) hI (vx_runV (As := []) (rest := []) E (met_X6_here l htr G (d + 6) hq) (cwV 0 E.2.2.2.2 (lw_V q318 q320 qs2 q129 q321) rfl rfl rfl hd_X6_here (rm_ok (by omega) (by decide))) (hv_preV hK hI hrv rfl) rfl rfl hl.1 rfl (lv_room (by first | rfl | decide | (simp [va_rf_cat, int_cat, long_cat]; done) | (simp [va_rf_cat, int_cat, long_cat]; decide))) dX6_next_40 (hv_fit (by first | exact hu | omega))) (fun _ _ _ _ _ h => h.elim) (fun x73 y72 H locs hw hI => ?_)
          refine lv_istore_n (lv' := [(1, .int (x73)), (0, va_rf (some a0))]) E.1 E.2.1 dX6_next_43 rfl hl (Nat.le_of_ble_eq_true rfl) (by first | rfl | decide | (simp [va_rf_cat, int_cat, long_cat]; done) | (simp [va_rf_cat, int_cat, long_cat]; decide)) (fun ls hl => ?_)
          refine hv_aload_n (r := some a0) E.1 E.2.1 dX6_next_44 rfl (lv_at hl 1 rfl) ?_
          refine lv_iload_n E.1 E.2.1 dX6_next_45 rfl (lv_at hl 0 rfl) ?_
          refine lv_if_ge (tgt := 53) E.1 E.2.1 dX6_next_46 (by decide) (fun c75 => ?_) (fun c75 => ?_)
          · replace hw := hw.1 (c75)
            refine lv_iconst (v := nI 0) E.1 E.2.1 dX6_next_53 rfl ?_
            exact jh21 _ _ _ _ _ hw _ _ _ hI (lv_sub hl [1, 0] rfl)
          · replace hw := hw.2 (c75)
            refine lv_iconst (v := nI 1) E.1 E.2.1 dX6_next_49 rfl ?_
            refine lv_goto (tgt := 54) E.1 E.2.1 dX6_next_50 (by decide) ?_
            exact jh21 _ _ _ _ _ hw _ _ _ hI (lv_sub hl [1, 0] rfl)
        · replace hw := hw.2 (c19)
          refine hv_aload_n (r := some a0) E.1 E.2.1 dX6_next_18 rfl (lv_at hl 0 rfl) ?_
          refine hv_dup E.1 E.2.1 dX6_next_19 ?_
          obtain ⟨f77, ⟨fs, hfs, hfk⟩, hw⟩ := hw
          refine hv_get (v := .int f77) E hK hI ciX6 2 (Nat.le_of_ble_eq_true rfl) q279 (fun _ h => h) (Or.inl hfs) hfk dX6_next_20 ?_
          refine lv_iconst (v := nI 1) E.1 E.2.1 dX6_next_23 rfl ?_
          refine lv_iadd E.1 E.2.1 dX6_next_24 ?_
          obtain ⟨fs79, hfs, hln, hw⟩ := hw
          refine hv_put (v := .int (f77 + (nI 1))) E hK hI ciX6 2 (Nat.le_of_ble_eq_true rfl) q279 (fun _ h => h) rfl rfl rfl hfs hln dX6_next_25 (fun H locs hI => ?_)
          obtain ⟨y78, ey78⟩ : ∃ w, w = hput y16 a0 (ob 4 (fs79.set 2 (.int (f77 + (nI 1))))) := ⟨_, rfl⟩
          rw [← ey78] at hI
          replace hw := hw y78 ey78
          refine lv_goto (tgt := 0) E.1 E.2.1 dX6_next_28 (by decide) ?_
          obtain ⟨n80, hnn80, hin80⟩ := hw
          exact ih4 n80 hnn80 _ _ hin80 _ _ _ hI (lv_sub hl [0] rfl)
  exact L5 n7 _ _ hi82 _ _ _ hI (lv_sub hl [0] rfl)
/-- CaseGrouper$Reader.isSign(I)Z -/
def wp_X6_isSign (G : GP) (post : Bool → HS → Prop) (y0 : HS) (a0 : Nat) (i1 : Int32) : Prop := ∃ f1, fR y0 a0 4 4 f1 ∧ ∃ b2, isIn G y0 f1 22 b2 ∧ (b2 = false → post false y0) ∧ (b2 = true → isOf G y0 f1 22 ∧ ∃ a4, f1 = some a4 ∧ (∃ fs7, rd G y0 a4 (ob 22 fs7)) ∧ wp_J14_charValue G (fun x6 y5 => (¬ x6 = i1 → post false y5) ∧ (x6 = i1 → post true y5)) y0 a4)
theorem hs_X6_isSign : yX6_isSign.cls ≠ "java/lang/invoke/MethodHandle" ∧ yX6_isSign.cls ≠ "java/lang/invoke/VarHandle" ∧ (parseMethodDescriptor yX6_isSign.desc).map (fun d => d.parameters.length) = some 1 := by decide +kernel
theorem hd_X6_isSign : yX6_isSign.cls = RX6 ∧ yX6_isSign.cls ≠ "java/lang/invoke/MethodHandle" ∧ yX6_isSign.cls ≠ "java/lang/invoke/VarHandle" ∧ (parseMethodDescriptor yX6_isSign.desc).map (fun d => d.parameters.length) = some 1 := by decide +kernel
set_option maxHeartbeats 4000000 in
theorem met_X6_isSign (l : Launch) (htr : l.stackTraces = false) (G : GP) (d : Nat) {post : Bool → HS → Prop} {y0 : HS} {a0 : Nat} {i1 : Int32} (hw : wp_X6_isSign G post y0 a0 i1) : vx_Met l yX6_isSign (ws_ yX6_isSign cX6_isSign 4 (some .boolean)) (rmB (d + 1) 0) (hPc G y0 [va_rf (some a0), .int (i1)]) (hQz G y0 post) (hX G y0 (fun _ _ _ => False)) 0 (20 * 0) (HA y0) := by
  unfold wp_X6_isSign at hw
  refine hv_met (own := RX6) (by decide) rfl (Nat.le_of_ble_eq_true rfl) ?_
  intro p e s m args below meth c ls E hr hlocks hnm hE hK hI hl
  replace hl : lv_has ls 4 [(0, va_rf (some a0)), (1, .int (i1))] := hl
  refine hv_aload_n (r := some a0) E.1 E.2.1 dX6_isSign_0 rfl (lv_at hl 0 rfl) ?_
  obtain ⟨f1, ⟨fs, hfs, hfk⟩, hw⟩ := hw
  refine hv_get (v := va_rf f1) E hK hI ciX6 4 (Nat.le_of_ble_eq_true rfl) q281 (fun _ h => h) (Or.inl hfs) hfk dX6_isSign_1 ?_
  refine hv_astore_n (r := f1) (lv' := [(3, va_rf f1), (0, va_rf (some a0)), (1, .int (i1))]) E.1 E.2.1 dX6_isSign_4 rfl hl (Nat.le_of_ble_eq_true rfl) (by first | rfl | decide | (simp [va_rf_cat, int_cat, long_cat]; done) | (simp [va_rf_cat, int_cat, long_cat]; decide)) (fun ls hl => ?_)
  refine hv_aload_n (r := f1) E.1 E.2.1 dX6_isSign_5 rfl (lv_at hl 0 rfl) ?_
  obtain ⟨b2, hin, hw⟩ := hw
  refine hv_inst (cn := 22) E hK hI (by decide) q973 hin dX6_isSign_6 ?_
  refine lv_if_eq (tgt := 29) E.1 E.2.1 dX6_isSign_9 (by decide) (fun c3 => ?_) (fun c3 => ?_)
  · replace hw := hw.1 (bi_z c3)
    refine lv_iconst (v := nI 0) E.1 E.2.1 dX6_isSign_29 rfl ?_
    exact hv_iretz (b := false) E hr hlocks hI (Nat.le_refl 0) rfl hw dX6_isSign_30
  · replace hw := hw.2 (bi_n c3)
    refine hv_aload_n (r := f1) E.1 E.2.1 dX6_isSign_12 rfl (lv_at hl 0 rfl) ?_
    obtain ⟨hof, hw⟩ := hw
    refine hv_castC (cn := 22) E hK hI (by decide) q973 hof dX6_isSign_13 ?_
    refine hv_astore_n (r := f1) (lv' := [(2, va_rf f1), (3, va_rf f1), (0, va_rf (some a0)), (1, .int (i1))]) E.1 E.2.1 dX6_isSign_16 rfl hl (Nat.le_of_ble_eq_true rfl) (by first | rfl | decide | (simp [va_rf_cat, int_cat, long_cat]; done) | (simp [va_rf_cat, int_cat, long_cat]; decide)) (fun ls hl => ?_)
    refine hv_aload_n (r := f1) E.1 E.2.1 dX6_isSign_17 rfl (lv_at hl 0 rfl) ?_
    obtain ⟨a4, ea4, hw⟩ := hw
    revert hl hw; subst ea4; intro hl hw
    obtain ⟨⟨fs7, hrv⟩, hw⟩ := hw
    have hq := hw
    clear hw
    refine hv_calli (u := 0) (B1 := 0) hI (vx_runV (As := []) (rest := []) E (met_J14_charValue l G (d) hq) (cwV 0 E.2.2.2.2 (lw_V q974 q975 q976 q144 q977) rfl rfl rfl hd_J14_charValue (rm_ok (by omega) (by decide))) (hv_preV hK hI hrv rfl) rfl rfl hl.1 rfl (lv_room (by first | rfl | decide | (simp [va_rf_cat, int_cat, long_cat]; done) | (simp [va_rf_cat, int_cat, long_cat]; decide))) dX6_isSign_18 (hv_fit (by first | exact (Nat.le_refl 0) | omega))) (fun _ _ _ _ _ h => h.elim) (fun x6 y5 H locs hw hI => ?_)
    refine lv_iload_n E.1 E.2.1 dX6_isSign_21 rfl (lv_at hl 3 rfl) ?_
    refine lv_icmp_ne (tgt := 29) E.1 E.2.1 dX6_isSign_22 (by decide) (fun c8 => ?_) (fun c8 => ?_)
    · replace hw := hw.1 (c8)
      refine lv_iconst (v := nI 0) E.1 E.2.1 dX6_isSign_29 rfl ?_
      exact hv_iretz (b := false) E hr hlocks hI (Nat.le_refl 0) rfl hw dX6_isSign_30
    · replace hw := hw.2 (c8)
      refine lv_iconst (v := nI 1) E.1 E.2.1 dX6_isSign_25 rfl ?_
      refine lv_goto (tgt := 30) E.1 E.2.1 dX6_isSign_26 (by decide) ?_
      exact hv_iretz (b := true) E hr hlocks hI (Nat.le_refl 0) rfl hw dX6_isSign_30
/-- CaseGrouper$Reader.code(II)I -/
def wp_X6_code (G : GP) (B : Nat) (post : Int32 → HS → Prop) (xp : Nat → Nat → HS → Prop) (y0 : HS) (a0 : Nat) (i1 : Int32) (i2 : Int32) : Prop := ∃ J1 : HS → Nat → (Option Nat) → Prop, (∀ (y3 : HS) (u5 : Nat) (r4 : Option Nat), J1 y3 u5 r4 → u5 ≤ B ∧ (∃ fs8, rd G y3 a0 (ob 4 fs8)) ∧ ∃ k9, u5 + k9 ≤ B ∧ wp_X6_wrong G k9 (fun r7 y6 => ∃ a10, r7 = some a10 ∧ ∃ fs11, y6.1 a10 = some (ob 6 fs11) ∧ xp 6 a10 y6) y3 a0 (nI 1)) ∧ (∃ f12, fR y0 a0 4 4 f12 ∧ ((isOf G y0 f12 5 ∧ ((f12 = none ∧ 0 + 60 ≤ B ∧ ∀ (q19 : Nat) (y20 : HS), y20.1 = y0.1 → y0.2 ≤ y20.2 → J1 y20 ((0 + 60)) (some q19)) ∨ (∃ a18, f12 = some a18 ∧ ∃ f21, fI y0 a18 5 0 f21 ∧ wp_X1_within G (fun b23 y22 => (∃ fs25, rd G y22 a0 (ob 4 fs25)) ∧ ∃ k26, 0 + k26 ≤ B ∧ wp_X6_must G k26 (fun y24 => (∃ fs28, rd G y24 a0 (ob 4 fs28)) ∧ ∃ k29, (0 + k26) + k29 ≤ B ∧ wp_X6_next G k29 (fun y27 => post f21 y27) y24 a0) (fun ec30 q31 y32 => ec30 = 6 ∧ xp 6 q31 y32) y22 a0 b23 (nI 2)) y0 f21 i1 i2))) ∨ (∃ (a15 ci16 : Nat) (fs17 : List Value), f12 = some a15 ∧ rd G y0 a15 (ob ci16 fs17) ∧ ci16 < 27 ∧ (cnm ci16, cnm 5) ∈ ncTab ∧ 0 + 60 ≤ B ∧ ∀ (q13 : Nat) (y14 : HS), y14.1 = y0.1 → y0.2 ≤ y14.2 → J1 y14 ((0 + 60)) (some q13))))
theorem hs_X6_code : yX6_code.cls ≠ "java/lang/invoke/MethodHandle" ∧ yX6_code.cls ≠ "java/lang/invoke/VarHandle" ∧ (parseMethodDescriptor yX6_code.desc).map (fun d => d.parameters.length) = some 2 := by decide +kernel
theorem hd_X6_code : yX6_code.cls = RX6 ∧ yX6_code.cls ≠ "java/lang/invoke/MethodHandle" ∧ yX6_code.cls ≠ "java/lang/invoke/VarHandle" ∧ (parseMethodDescriptor yX6_code.desc).map (fun d => d.parameters.length) = some 2 := by decide +kernel
set_option maxHeartbeats 4000000 in
theorem met_X6_code (l : Launch) (htr : l.stackTraces = false) (G : GP) (d : Nat) {B : Nat} {post : Int32 → HS → Prop} {xp : Nat → Nat → HS → Prop} {y0 : HS} {a0 : Nat} {i1 : Int32} {i2 : Int32} (hw : wp_X6_code G B post xp y0 a0 i1 i2) : vx_Met l yX6_code (wsW_ yX6_code cX6_code 4 (some .int) [(0, 27, 28, 140), (0, 27, 28, 142)]) (rmB (d + 230) B) (hPc G y0 [va_rf (some a0), .int (i1), .int (i2)]) (hQi G y0 post) (hX G y0 xp) B (20 * B) (HA y0) := by
  unfold wp_X6_code at hw
  refine hv_metH (hh := [(0, 27, 28, 140), (0, 27, 28, 142)]) (own := RX6) (by decide) rfl (Nat.le_of_ble_eq_true rfl) ?_
  intro p e s m args below meth c ls E hr hlocks hnm hE hK hI hl
  replace hl : lv_has ls 4 [(0, va_rf (some a0)), (1, .int (i1)), (2, .int (i2))] := hl
  have hu : 0 ≤ B := Nat.zero_le _
  obtain ⟨J1, hj33, hw⟩ := hw
  have jh2 : ∀ (y3 : HS) (u5 : Nat) (r4 : Option Nat), J1 y3 u5 r4 → ∀ (H : Heap) (locs : List Loc) (ls : Array Slot), HI G y0 y3 s H locs → lv_has ls 4 [(0, va_rf (some a0))] → W p l e (rmB (d + 230) B) s m args below meth c H locs u5 (20 * u5) (vx_MQ below (hQi G y0 post) (hX G y0 xp) args s B (20 * B) (HA y0)) (F0 m 28 ls [va_rf r4]) := by
    intro y3 u5 r4 hw H locs ls hI hl
    replace hw := hj33 y3 u5 r4 hw
    obtain ⟨hu, hw⟩ := hw
    refine hv_astore_n (r := r4) (lv' := [(3, va_rf r4), (0, va_rf (some a0))]) E.1 E.2.1 dX6_code_28 rfl hl (Nat.le_of_ble_eq_true rfl) (by first | rfl | decide | (simp [va_rf_cat, int_cat, long_cat]; done) | (simp [va_rf_cat, int_cat, long_cat]; decide)) (fun ls hl => ?_)
    refine hv_aload_n (r := some a0) E.1 E.2.1 dX6_code_29 rfl (lv_at hl 1 rfl) ?_
    refine lv_iconst (v := nI 1) E.1 E.2.1 dX6_code_30 rfl ?_
    obtain ⟨⟨fs8, hrv⟩, hw⟩ := hw
    obtain ⟨k9, hB, hw⟩ := hw
    have hq := hw
    clear hw
    refine hv_callq (u := u5) (B1 := k9) hI (vx_runV (As := [.int (nI 1)]) (rest := []) E (met_X6_wrong l htr G (d + 225) hq) (cwV 1 E.2.2.2.2 (lw_V q598 q600 qs10 q129 q601) rfl rfl rfl hd_X6_wrong (rm_ok (by omega) (by decide))) (hv_preV hK hI hrv rfl) rfl rfl hl.1 rfl (lv_room (by first | rfl | decide | (simp [va_rf_cat, int_cat, long_cat]; done) | (simp [va_rf_cat, int_cat, long_cat]; decide))) dX6_code_31 (hv_fit (by first | exact hB | omega))) (fun _ _ _ _ _ h => h.elim) (fun r7 y6 H locs hw hI => ?_)
    have hu := hB
    obtain ⟨a10, ea10, hw⟩ := hw
    revert hl hw; subst ea10; intro hl hw
    obtain ⟨fs11, hfs, hw⟩ := hw
    refine hv_athrow (q := a10) E dX6_code_34 ?_
    exact hv_outH E hlocks (by rw [hE]; intro x hx; simp only [List.map_cons, List.map_nil, List.mem_cons, List.not_mem_nil, or_false] at hx; first | (rcases hx with rfl | rfl <;> rfl) | (subst hx; rfl)) hI (hI.xcell hK (by decide) hfs) hu hw
  refine hv_aload_n (r := some a0) E.1 E.2.1 dX6_code_0 rfl (lv_at hl 0 rfl) ?_
  obtain ⟨f12, ⟨fs, hfs, hfk⟩, hw⟩ := hw
  refine hv_get (v := va_rf f12) E hK hI ciX6 4 (Nat.le_of_ble_eq_true rfl) q281 (fun _ h => h) (Or.inl hfs) hfk dX6_code_1 ?_
  rcases hw with ⟨hof, hw⟩ | ⟨a15, ci16, fs17, hea, hrv, hci, hnc, hu, hw⟩
  · refine hv_castC (cn := 5) E hK hI (by decide) q563 hof dX6_code_4 ?_
    rcases hw with ⟨hea, hu, hw⟩ | ⟨a18, hea, hw⟩
    · rw [hea]
      refine hv_npeF htr E hK hI hlocks hl.1 ciX7 0 (Nat.le_of_ble_eq_true rfl) q570 (fun _ h => h) hu (by first | rfl | decide | (simp [va_rf_cat, int_cat, long_cat]; done) | (simp [va_rf_cat, int_cat, long_cat]; decide)) dX6_code_7 (fun q19 y20 H e1 e2 hI hc => ?_)
      replace hw := hw q19 y20 e1 e2
      refine hv_catch1 (ec := 25) (e0 := 24) E hK hE (by decide) q843 (by decide) (by decide) (by decide) q867 q889 hc ?_
      exact jh2 _ _ _ hw _ _ _ hI (lv_sub hl [0] rfl)
    · revert hl hw; subst hea; intro hl hw
      obtain ⟨f21, ⟨fs, hfs, hfk⟩, hw⟩ := hw
      refine hv_getN (v := .int f21) E hK hI ciX7 0 (Nat.le_of_ble_eq_true rfl) q570 (fun _ h => h) (Or.inl hfs) hfk dX6_code_7 ?_
      refine lv_istore_n (lv' := [(3, .int (f21)), (0, va_rf (some a0)), (1, .int (i1)), (2, .int (i2))]) E.1 E.2.1 dX6_code_10 rfl hl (Nat.le_of_ble_eq_true rfl) (by first | rfl | decide | (simp [va_rf_cat, int_cat, long_cat]; done) | (simp [va_rf_cat, int_cat, long_cat]; decide)) (fun ls hl => ?_)
      refine hv_aload_n (r := some a0) E.1 E.2.1 dX6_code_11 rfl (lv_at hl 1 rfl) ?_
      refine lv_iload_n E.1 E.2.1 dX6_code_12 rfl (lv_at hl 0 rfl) ?_
      refine lv_iload_n E.1 E.2.1 dX6_code_13 rfl (lv_at hl 2 rfl) ?_
      refine lv_iload_n E.1 E.2.1 dX6_code_14 rfl (lv_at hl 3 rfl) ?_
      have hq := hw
      clear hw
      refine hv_callz (u := 0) (B1 := 0) hI (vx_runSN (As := [.int (f21), .int (i1), .int (i2)]) (rest := [va_rf (some a0)]) E (met_X1_within l G (d + 229) hq) ⟨va_cnB 3 E.2.2.2.2 (lw_meth q182) rfl rfl rfl (hK.2.2.2.2.1 _ q326 rfl) (E.2.2.2.2 _ q121) hs_X1_within (rm_ok (by omega) (by decide)), E.2.2.2.2 _ q181, trivial⟩ (hv_preS hK hI) rfl rfl hl.1 rfl (lv_room (by first | rfl | decide | (simp [va_rf_cat, int_cat, long_cat]; done) | (simp [va_rf_cat, int_cat, long_cat]; decide))) dX6_code_15 (hv_fit (by first | exact hu | omega))) (fun _ _ _ _ _ h => h.elim) (fun b23 y22 H locs hw hI => ?_)
      refine lv_iconst (v := nI 2) E.1 E.2.1 dX6_code_18 rfl ?_
      obtain ⟨⟨fs25, hrv⟩, hw⟩ := hw
      obtain ⟨k26, hB, hw⟩ := hw
      have hq := hw
      clear hw
      refine hv_callv (u := 0) (B1 := k26) hI (vx_runV (As := [.int (bi b23), .int (nI 2)]) (rest := []) E (met_X6_must l htr G (d + 224) hq) (cwV 2 E.2.2.2.2 (lw_V q594 q596 qs9 q129 q597) rfl rfl rfl hd_X6_must (rm_ok (by omega) (by decide))) (hv_preV hK hI hrv rfl) rfl rfl hl.1 rfl (lv_room (by first | rfl | decide | (simp [va_rf_cat, int_cat, long_cat]; done) | (simp [va_rf_cat, int_cat, long_cat]; decide))) dX6_code_19 (hv_fit (by first | exact hB | omega))) (fun ec q31 y32 H locs hw hI hc => ?_) (fun y24 H locs hw hI => ?_)
      · obtain ⟨rfl, hw⟩ := hw
        have hu := hB
        exact hv_outP2 (e0 := 24) (e1 := 25) (ec := 6) E hK hE (by decide) (by decide) q843 q867 (by decide) (by decide) hlocks hI hc hu hw
      · skip
        have hu := hB
        refine hv_aload_n (r := some a0) E.1 E.2.1 dX6_code_22 rfl (lv_at hl 1 rfl) ?_
        obtain ⟨⟨fs28, hrv⟩, hw⟩ := hw
        obtain ⟨k29, hB, hw⟩ := hw
        have hq := hw
        clear hw
        refine hv_callv (u := ((0 + k26))) (B1 := k29) hI (vx_runV (As := []) (rest := []) E (met_X6_next l htr G (d + 222) hq) (cwV 0 E.2.2.2.2 (lw_V q314 q316 qs1 q129 q317) rfl rfl rfl hd_X6_next (rm_ok (by omega) (by decide))) (hv_preV hK hI hrv rfl) rfl rfl hl.1 rfl (lv_room (by first | rfl | decide | (simp [va_rf_cat, int_cat, long_cat]; done) | (simp [va_rf_cat, int_cat, long_cat]; decide))) dX6_code_23 (hv_fit (by first | exact hB | omega))) (fun _ _ _ _ _ h => h.elim) (fun y27 H locs hw hI => ?_)
        have hu := hB
        refine lv_iload_n E.1 E.2.1 dX6_code_26 rfl (lv_at hl 0 rfl) ?_
        exact hv_ireti E hr hlocks hI hu hw dX6_code_27
  · rw [hea]
    refine hv_castX (cn := 5) htr E hK hI hlocks hl.1 q563 hrv hci (by decide) hnc hu (by first | rfl | decide | (simp [va_rf_cat, int_cat, long_cat]; done) | (simp [va_rf_cat, int_cat, long_cat]; decide)) dX6_code_4 (fun q13 y14 H e1 e2 hI hc => ?_)
    replace hw := hw q13 y14 e1 e2
    refine hv_catch0 (ec := 24) E hK hE (by decide) (by decide) q843 q863 hc ?_
    exact jh2 _ _ _ hw _ _ _ hI (lv_sub hl [0] rfl)
/-- CaseGrouper$Reader.isWord(Ljava/lang/String;)Z -/
def wp_X6_isWord (G : GP) (post : Bool → HS → Prop) (y0 : HS) (a0 : Nat) (p1 : Option Nat) : Prop := ∃ f1, fR y0 a0 4 4 f1 ∧ ∃ b2, isIn G y0 f1 20 b2 ∧ (b2 = false → post false y0) ∧ (b2 = true → isOf G y0 f1 20 ∧ ∃ a4, f1 = some a4 ∧ (∃ fs7, rd G y0 a4 (ob 20 fs7)) ∧ wp_J5_equals G (fun b6 y5 => (b6 = false → post false y5) ∧ (b6 = true → post true y5)) y0 a4 p1)
theorem hs_X6_isWord : yX6_isWord.cls ≠ "java/lang/invoke/MethodHandle" ∧ yX6_isWord.cls ≠ "java/lang/invoke/VarHandle" ∧ (parseMethodDescriptor yX6_isWord.desc).map (fun d => d.parameters.length) = some 1 := by decide +kernel
theorem hd_X6_isWord : yX6_isWord.cls = RX6 ∧ yX6_isWord.cls ≠ "java/lang/invoke/MethodHandle" ∧ yX6_isWord.cls ≠ "java/lang/invoke/VarHandle" ∧ (parseMethodDescriptor yX6_isWord.desc).map (fun d => d.parameters.length) = some 1 := by decide +kernel
set_option maxHeartbeats 4000000 in
theorem met_X6_isWord (l : Launch) (htr : l.stackTraces = false) (G : GP) (d : Nat) {post : Bool → HS → Prop} {y0 : HS} {a0 : Nat} {p1 : Option Nat} (hw : wp_X6_isWord G post y0 a0 p1) : vx_Met l yX6_isWord (ws_ yX6_isWord cX6_isWord 4 (some .boolean)) (rmB (d + 2) 0) (hPc G y0 [va_rf (some a0), va_rf p1]) (hQz G y0 post) (hX G y0 (fun _ _ _ => False)) 0 (20 * 0) (HA y0) := by
  unfold wp_X6_isWord at hw
  refine hv_met (own := RX6) (by decide) rfl (by simp [lg_sl, va_rf_cat, int_cat, long_cat]) ?_
  intro p e s m args below meth c ls E hr hlocks hnm hE hK hI hl
  replace hl : lv_has ls 4 [(0, va_rf (some a0)), (1, va_rf p1)] := by simpa [lv_args, va_rf_cat, int_cat, long_cat] using hl
  refine hv_aload_n (r := some a0) E.1 E.2.1 dX6_isWord_0 rfl (lv_at hl 0 rfl) ?_
  obtain ⟨f1, ⟨fs, hfs, hfk⟩, hw⟩ := hw
  refine hv_get (v := va_rf f1) E hK hI ciX6 4 (Nat.le_of_ble_eq_true rfl) q281 (fun _ h => h) (Or.inl hfs) hfk dX6_isWord_1 ?_
  refine hv_astore_n (r := f1) (lv' := [(3, va_rf f1), (0, va_rf (some a0)), (1, va_rf p1)]) E.1 E.2.1 dX6_isWord_4 rfl hl (Nat.le_of_ble_eq_true rfl) (by first | rfl | decide | (simp [va_rf_cat, int_cat, long_cat]; done) | (simp [va_rf_cat, int_cat, long_cat]; decide)) (fun ls hl => ?_)
  refine hv_aload_n (r := f1) E.1 E.2.1 dX6_isWord_5 rfl (lv_at hl 0 rfl) ?_
  obtain ⟨b2, hin, hw⟩ := hw
  refine hv_inst (cn := 20) E hK hI (by decide) q593 hin dX6_isWord_6 ?_
  refine lv_if_eq (tgt := 29) E.1 E.2.1 dX6_isWord_9 (by decide) (fun c3 => ?_) (fun c3 => ?_)
  · replace hw := hw.1 (bi_z c3)
    refine lv_iconst (v := nI 0) E.1 E.2.1 dX6_isWord_29 rfl ?_
    exact hv_iretz (b := false) E hr hlocks hI (Nat.le_refl 0) rfl hw dX6_isWord_30
  · replace hw := hw.2 (bi_n c3)
    refine hv_aload_n (r := f1) E.1 E.2.1 dX6_isWord_12 rfl (lv_at hl 0 rfl) ?_
    obtain ⟨hof, hw⟩ := hw
    refine hv_castC (cn := 20) E hK hI (by decide) q593 hof dX6_isWord_13 ?_
    refine hv_astore_n (r := f1) (lv' := [(2, va_rf f1), (3, va_rf f1), (0, va_rf (some a0)), (1, va_rf p1)]) E.1 E.2.1 dX6_isWord_16 rfl hl (Nat.le_of_ble_eq_true rfl) (by first | rfl | decide | (simp [va_rf_cat, int_cat, long_cat]; done) | (simp [va_rf_cat, int_cat, long_cat]; decide)) (fun ls hl => ?_)
    refine hv_aload_n (r := f1) E.1 E.2.1 dX6_isWord_17 rfl (lv_at hl 0 rfl) ?_
    refine hv_aload_n (r := p1) E.1 E.2.1 dX6_isWord_18 rfl (lv_at hl 3 rfl) ?_
    obtain ⟨a4, ea4, hw⟩ := hw
    revert hl hw; subst ea4; intro hl hw
    obtain ⟨⟨fs7, hrv⟩, hw⟩ := hw
    have hq := hw
    clear hw
    refine hv_callz (u := 0) (B1 := 0) hI (vx_runV (As := [va_rf p1]) (rest := []) E (met_J5_equals l G (d) hq) (cwV 1 E.2.2.2.2 (lw_V q736 q737 q738 q132 q739) rfl rfl rfl hd_J5_equals (rm_ok (by omega) (by decide))) (hv_preV hK hI hrv rfl) rfl rfl hl.1 rfl (lv_room (by first | rfl | decide | (simp [va_rf_cat, int_cat, long_cat]; done) | (simp [va_rf_cat, int_cat, long_cat]; decide))) dX6_isWord_19 (hv_fit (by first | exact (Nat.le_refl 0) | omega))) (fun _ _ _ _ _ h => h.elim) (fun b6 y5 H locs hw hI => ?_)
    refine lv_if_eq (tgt := 29) E.1 E.2.1 dX6_isWord_22 (by decide) (fun c8 => ?_) (fun c8 => ?_)
    · replace hw := hw.1 (bi_z c8)
      refine lv_iconst (v := nI 0) E.1 E.2.1 dX6_isWord_29 rfl ?_
      exact hv_iretz (b := false) E hr hlocks hI (Nat.le_refl 0) rfl hw dX6_isWord_30
    · replace hw := hw.2 (bi_n c8)
      refine lv_iconst (v := nI 1) E.1 E.2.1 dX6_isWord_25 rfl ?_
      refine lv_goto (tgt := 30) E.1 E.2.1 dX6_isWord_26 (by decide) ?_
      exact hv_iretz (b := true) E hr hlocks hI (Nat.le_refl 0) rfl hw dX6_isWord_30
/-- CaseGrouper$Reader.span(Z)LCaseGrouper$Span; -/
def wp_X6_span (G : GP) (B : Nat) (post : Option Nat → HS → Prop) (xp : Nat → Nat → HS → Prop) (y0 : HS) (a0 : Nat) (o1 : Bool) : Prop := ∃ J1 : HS → Nat → Int32 → (Option Nat) → Prop, (∀ (y3 : HS) (u6 : Nat) (x4 : Int32) (r5 : Option Nat), J1 y3 u6 x4 r5 → u6 ≤ B ∧ ∃ J7 : HS → Nat → Int32 → Int32 → (Option Nat) → Prop, (∀ (y9 : HS) (u13 : Nat) (x10 : Int32) (x11 : Int32) (r12 : Option Nat), J7 y9 u13 x10 x11 r12 → u13 ≤ B ∧ ∃ a14, r12 = some a14 ∧ (∃ fs17, rd G y9 a14 (ob 4 fs17)) ∧ ∃ k18, u13 + k18 ≤ B ∧ wp_X6_code G k18 (fun x16 y15 => (∃ fs21, rd G y15 a0 (ob 4 fs21)) ∧ wp_X6_isWord G (fun b20 y19 => (b20 = true → ∃ J23 : HS → Nat → Int32 → Int32 → (Option Nat) → Int32 → (Option Nat) → (Option Nat) → Prop, (∀ (y25 : HS) (u32 : Nat) (x26 : Int32) (x27 : Int32) (r28 : Option Nat) (x29 : Int32) (r30 : Option Nat) (r31 : Option Nat), J23 y25 u32 x26 x27 r28 x29 r30 r31 → u32 ≤ B ∧ ∃ a33, r28 = some a33 ∧ (∃ fs36, rd G y25 a33 (ob 4 fs36)) ∧ ∃ k37, u32 + k37 ≤ B ∧ wp_X6_code G k37 (fun x35 y34 => ∃ a38, r30 = some a38 ∧ wp_X10_init G (fun y39 => post r31 y39) y34 a38 x29 x35) xp y25 a33 x27 x26) ∧ ((∃ fs41, rd G y19 a0 (ob 4 fs41)) ∧ ∃ k42, (u13 + k18) + k42 ≤ B ∧ wp_X6_next G k42 (fun y40 => ((u13 + k18) + k42) + 1 ≤ B ∧ ∀ a44, a44 = y40.2 → ∀ y43, y43 = hnew y40 (ob 8 [.int 0, .int 0]) → (o1 = false → J23 y43 ((((u13 + k18) + k42) + 1)) (nI 1499) x16 (some a0) x16 (some a44) (some a44)) ∧ (o1 = true → J23 y43 ((((u13 + k18) + k42) + 1)) (nI 999) x16 (some a0) x16 (some a44) (some a44))) y19 a0)) ∧ (b20 = false → (u13 + k18) + 1 ≤ B ∧ ∀ a48, a48 = y19.2 → ∀ y47, y47 = hnew y19 (ob 8 [.int 0, .int 0]) → wp_X10_init G (fun y49 => post (some a48) y49) y47 a48 x16 x16)) y15 a0 (some (gK G 17))) xp y9 a14 x11 x10) ∧ ((o1 = false → J7 y3 u6 (nI 1499) x4 r5) ∧ (o1 = true → J7 y3 u6 (nI 999) x4 r5))) ∧ ((o1 = false → J1 y0 0 (nI 1000) (some a0)) ∧ (o1 = true → J1 y0 0 (nI 0) (some a0)))
theorem hs_X6_span : yX6_span.cls ≠ "java/lang/invoke/MethodHandle" ∧ yX6_span.cls ≠ "java/lang/invoke/VarHandle" ∧ (parseMethodDescriptor yX6_span.desc).map (fun d => d.parameters.length) = some 1 := by decide +kernel
theorem hd_X6_span : yX6_span.cls = RX6 ∧ yX6_span.cls ≠ "java/lang/invoke/MethodHandle" ∧ yX6_span.cls ≠ "java/lang/invoke/VarHandle" ∧ (parseMethodDescriptor yX6_span.desc).map (fun d => d.parameters.length) = some 1 := by decide +kernel
set_option maxHeartbeats 4000000 in
theorem met_X6_span (l : Launch) (htr : l.stackTraces = false) (G : GP) (d : Nat) {B : Nat} {post : Option Nat → HS → Prop} {xp : Nat → Nat → HS → Prop} {y0 : HS} {a0 : Nat} {o1 : Bool} (hw : wp_X6_span G B post xp y0 a0 o1) : vx_Met l yX6_span (ws_ yX6_span cX6_span 3 (some (.object "CaseGrouper$Span"))) (rmB (d + 231) B) (hPc G y0 [va_rf (some a0), .int (bi o1)]) (hQq G y0 post) (hX G y0 xp) B (20 * B) (HA y0) := by
  unfold wp_X6_span at hw
  refine hv_met (own := RX6) (by decide) rfl (Nat.le_of_ble_eq_true rfl) ?_
  intro p e s m args below meth c ls E hr hlocks hnm hE hK hI hl
  replace hl : lv_has ls 3 [(0, va_rf (some a0)), (1, .int (bi o1))] := hl
  have hu : 0 ≤ B := Nat.zero_le _
  obtain ⟨J1, hj53, hw⟩ := hw
  have jh2 : ∀ (y3 : HS) (u6 : Nat) (x4 : Int32) (r5 : Option Nat), J1 y3 u6 x4 r5 → ∀ (H : Heap) (locs : List Loc) (ls : Array Slot), HI G y0 y3 s H locs → lv_has ls 3 [(0, va_rf (some a0)), (1, .int (bi o1))] → W p l e (rmB (d + 231) B) s m args below meth c H locs u6 (20 * u6) (vx_MQ below (hQq G y0 post) (hX G y0 xp) args s B (20 * B) (HA y0)) (F0 m 12 ls [.int (x4), va_rf r5]) := by
    intro y3 u6 x4 r5 hw H locs ls hI hl
    replace hw := hj53 y3 u6 x4 r5 hw
    obtain ⟨hu, hw⟩ := hw
    obtain ⟨J7, hj51, hw⟩ := hw
    have jh8 : ∀ (y9 : HS) (u13 : Nat) (x10 : Int32) (x11 : Int32) (r12 : Option Nat), J7 y9 u13 x10 x11 r12 → ∀ (H : Heap) (locs : List Loc) (ls : Array Slot), HI G y0 y9 s H locs → lv_has ls 3 [(0, va_rf (some a0)), (1, .int (bi o1))] → W p l e (rmB (d + 231) B) s m args below meth c H locs u13 (20 * u13) (vx_MQ below (hQq G y0 post) (hX G y0 xp) args s B (20 * B) (HA y0)) (F0 m 25 ls [.int (x10), .int (x11), va_rf r12]) := by
      intro y9 u13 x10 x11 r12 hw H locs ls hI hl
      replace hw := hj51 y9 u13 x10 x11 r12 hw
      obtain ⟨hu, hw⟩ := hw
      obtain ⟨a14, ea14, hw⟩ := hw
      revert hl hw; subst ea14; intro hl hw
      obtain ⟨⟨fs17, hrv⟩, hw⟩ := hw
      obtain ⟨k18, hB, hw⟩ := hw
      have hq := hw
      clear hw
      refine hv_calli (u := u13) (B1 := k18) hI (vx_runVX (As := [.int (x11), .int (x10)]) (rest := []) E (met_X6_code l htr G (d) hq) (vx_cwVW 2 E.2.2.2.2 (lw_VW q839 q841 qs18 q129 q842) rfl rfl rfl hd_X6_code (rm_ok (by omega) (by decide))) (hv_preV hK hI hrv rfl) rfl rfl hl.1 rfl (lv_room (by first | rfl | decide | (simp [va_rf_cat, int_cat, long_cat]; done) | (simp [va_rf_cat, int_cat, long_cat]; decide))) dX6_span_25 (hv_fit (by first | exact hB | omega))) (fun ec q y1 H locs hx hI hc => hv_out hE hlocks hI hc (by first | exact hB | omega) hx) (fun x16 y15 H locs hw hI => ?_)
      have hu := hB
      refine lv_istore_n (lv' := [(2, .int (x16)), (0, va_rf (some a0)), (1, .int (bi o1))]) E.1 E.2.1 dX6_span_28 rfl hl (Nat.le_of_ble_eq_true rfl) (by first | rfl | decide | (simp [va_rf_cat, int_cat, long_cat]; done) | (simp [va_rf_cat, int_cat, long_cat]; decide)) (fun ls hl => ?_)
      refine hv_aload_n (r := some a0) E.1 E.2.1 dX6_span_29 rfl (lv_at hl 1 rfl) ?_
      refine hv_ldcS E hK 4 17 rfl dX6_span_30 ?_
      obtain ⟨⟨fs21, hrv⟩, hw⟩ := hw
      have hq := hw
      clear hw
      refine hv_callz (u := ((u13 + k18))) (B1 := 0) hI (vx_runV (As := [va_rf (some (gK G 17))]) (rest := []) E (met_X6_isWord l htr G (d + 228) hq) (cwV 1 E.2.2.2.2 (lw_V q892 q894 qs19 q129 q895) rfl rfl rfl hd_X6_isWord (rm_ok (by omega) (by decide))) (hv_preV hK hI hrv rfl) rfl rfl hl.1 rfl (lv_room (by first | rfl | decide | (simp [va_rf_cat, int_cat, long_cat]; done) | (simp [va_rf_cat, int_cat, long_cat]; decide))) dX6_span_32 (hv_fit (by first | exact hu | omega))) (fun _ _ _ _ _ h => h.elim) (fun b20 y19 H locs hw hI => ?_)
      refine lv_if_ne (tgt := 48) E.1 E.2.1 dX6_span_35 (by decide) (fun c22 => ?_) (fun c22 => ?_)
      · replace hw := hw.1 (bi_n c22)
        obtain ⟨J23, hj46, hw⟩ := hw
        have jh24 : ∀ (y25 : HS) (u32 : Nat) (x26 : Int32) (x27 : Int32) (r28 : Option Nat) (x29 : Int32) (r30 : Option Nat) (r31 : Option Nat), J23 y25 u32 x26 x27 r28 x29 r30 r31 → ∀ (H : Heap) (locs : List Loc) (ls : Array Slot), HI G y0 y25 s H locs → lv_has ls 3 [] → W p l e (rmB (d + 231) B) s m args below meth c H locs u32 (20 * u32) (vx_MQ below (hQq G y0 post) (hX G y0 xp) args s B (20 * B) (HA y0)) (F0 m 72 ls [.int (x26), .int (x27), va_rf r28, .int (x29), va_rf r30, va_rf r31]) := by
          intro y25 u32 x26 x27 r28 x29 r30 r31 hw H locs ls hI hl
          replace hw := hj46 y25 u32 x26 x27 r28 x29 r30 r31 hw
          obtain ⟨hu, hw⟩ := hw
          obtain ⟨a33, ea33, hw⟩ := hw
          revert hl hw; subst ea33; intro hl hw
          obtain ⟨⟨fs36, hrv⟩, hw⟩ := hw
          obtain ⟨k37, hB, hw⟩ := hw
          have hq := hw
          clear hw
          refine hv_calli (u := u32) (B1 := k37) hI (vx_runVX (As := [.int (x27), .int (x26)]) (rest := [.int (x29), va_rf r30, va_rf r31]) E (met_X6_code l htr G (d) hq) (vx_cwVW 2 E.2.2.2.2 (lw_VW q839 q841 qs18 q129 q842) rfl rfl rfl hd_X6_code (rm_ok (by omega) (by decide))) (hv_preV hK hI hrv rfl) rfl rfl hl.1 rfl (lv_room (by first | rfl | decide | (simp [va_rf_cat, int_cat, long_cat]; done) | (simp [va_rf_cat, int_cat, long_cat]; decide))) dX6_span_72 (hv_fit (by first | exact hB | omega))) (fun ec q y1 H locs hx hI hc => hv_out hE hlocks hI hc (by first | exact hB | omega) hx) (fun x35 y34 H locs hw hI => ?_)
          have hu := hB
          obtain ⟨a38, ea38, hw⟩ := hw
          revert hl hw; subst ea38; intro hl hw
          have hq := hw
          clear hw
          refine hv_callv (u := ((u32 + k37))) (B1 := 0) hI (vx_runI (b := a38) (As := [.int (x29), .int (x35)]) (rest := [va_rf r31]) E (met_X10_init l G (d + 229) hq) (cwI 2 E.2.2.2.2 (lw_meth q900) rfl rfl rfl (E.2.2.2.2 _ q154) (E.2.2.2.2 _ q898) (E.2.2.2.2 _ q899) rfl hs_X10_init (rm_ok (by omega) (by decide))) (hv_preS hK hI) rfl rfl hl.1 rfl (lv_room (by first | rfl | decide | (simp [va_rf_cat, int_cat, long_cat]; done) | (simp [va_rf_cat, int_cat, long_cat]; decide))) dX6_span_75 (hv_fit (by first | exact hu | omega))) (fun _ _ _ _ _ h => h.elim) (fun y39 H locs hw hI => ?_)
          exact hv_aret (r := r31) E hr (Or.inl ⟨_, rfl⟩) hlocks hI hu hw dX6_span_78
        refine hv_aload_n (r := some a0) E.1 E.2.1 dX6_span_48 rfl (lv_at hl 1 rfl) ?_
        obtain ⟨⟨fs41, hrv⟩, hw⟩ := hw
        obtain ⟨k42, hB, hw⟩ := hw
        have hq := hw
        clear hw
        refine hv_callv (u := ((u13 + k18))) (B1 := k42) hI (vx_runV (As := []) (rest := []) E (met_X6_next l htr G (d + 223) hq) (cwV 0 E.2.2.2.2 (lw_V q314 q316 qs1 q129 q317) rfl rfl rfl hd_X6_next (rm_ok (by omega) (by decide))) (hv_preV hK hI hrv rfl) rfl rfl hl.1 rfl (lv_room (by first | rfl | decide | (simp [va_rf_cat, int_cat, long_cat]; done) | (simp [va_rf_cat, int_cat, long_cat]; decide))) dX6_span_49 (hv_fit (by first | exact hB | omega))) (fun _ _ _ _ _ h => h.elim) (fun y40 H locs hw hI => ?_)
        have hu := hB
        obtain ⟨hu, hw⟩ := hw
        refine hv_new (fs := [.int 0, .int 0]) E hK hI ciX10 q896 q897 q154 (df8) (Nat.le_of_ble_eq_true rfl) hu dX6_span_52 (fun H hI => ?_)
        obtain ⟨a44, ea44⟩ : ∃ w, w = y40.2 := ⟨_, rfl⟩
        obtain ⟨y43, ey43⟩ : ∃ w, w = hnew y40 (ob 8 [.int 0, .int 0]) := ⟨_, rfl⟩
        rw [← ea44]
        rw [← ey43] at hI
        replace hw := hw a44 ea44 y43 ey43
        refine hv_dup E.1 E.2.1 dX6_span_55 ?_
        refine lv_iload_n E.1 E.2.1 dX6_span_56 rfl (lv_at hl 0 rfl) ?_
        refine hv_aload_n (r := some a0) E.1 E.2.1 dX6_span_57 rfl (lv_at hl 1 rfl) ?_
        refine lv_iload_n E.1 E.2.1 dX6_span_58 rfl (lv_at hl 0 rfl) ?_
        refine lv_iload_n E.1 E.2.1 dX6_span_59 rfl (lv_at hl 2 rfl) ?_
        refine lv_if_eq (tgt := 69) E.1 E.2.1 dX6_span_60 (by decide) (fun c45 => ?_) (fun c45 => ?_)
        · replace hw := hw.1 (bi_z c45)
          refine lv_sipush (v := nI 1499) E.1 E.2.1 dX6_span_69 rfl ?_
          exact jh24 _ _ _ _ _ _ _ _ hw _ _ _ hI (lv_sub hl [] rfl)
        · replace hw := hw.2 (bi_n c45)
          refine lv_sipush (v := nI 999) E.1 E.2.1 dX6_span_63 rfl ?_
          refine lv_goto (tgt := 72) E.1 E.2.1 dX6_span_66 (by decide) ?_
          exact jh24 _ _ _ _ _ _ _ _ hw _ _ _ hI (lv_sub hl [] rfl)
      · replace hw := hw.2 (bi_z c22)
        obtain ⟨hu, hw⟩ := hw
        refine hv_new (fs := [.int 0, .int 0]) E hK hI ciX10 q896 q897 q154 (df8) (Nat.le_of_ble_eq_true rfl) hu dX6_span_38 (fun H hI => ?_)
        obtain ⟨a48, ea48⟩ : ∃ w, w = y19.2 := ⟨_, rfl⟩
        obtain ⟨y47, ey47⟩ : ∃ w, w = hnew y19 (ob 8 [.int 0, .int 0]) := ⟨_, rfl⟩
        rw [← ea48]
        rw [← ey47] at hI
        replace hw := hw a48 ea48 y47 ey47
        refine hv_dup E.1 E.2.1 dX6_span_41 ?_
        refine lv_iload_n E.1 E.2.1 dX6_span_42 rfl (lv_at hl 0 rfl) ?_
        refine lv_iload_n E.1 E.2.1 dX6_span_43 rfl (lv_at hl 0 rfl) ?_
        have hq := hw
        clear hw
        refine hv_callv (u := (((u13 + k18) + 1))) (B1 := 0) hI (vx_runI (b := a48) (As := [.int (x16), .int (x16)]) (rest := [va_rf (some a48)]) E (met_X10_init l G (d + 229) hq) (cwI 2 E.2.2.2.2 (lw_meth q900) rfl rfl rfl (E.2.2.2.2 _ q154) (E.2.2.2.2 _ q898) (E.2.2.2.2 _ q899) rfl hs_X10_init (rm_ok (by omega) (by decide))) (hv_preS hK hI) rfl rfl hl.1 rfl (lv_room (by first | rfl | decide | (simp [va_rf_cat, int_cat, long_cat]; done) | (simp [va_rf_cat, int_cat, long_cat]; decide))) dX6_span_44 (hv_fit (by first | exact hu | omega))) (fun _ _ _ _ _ h => h.elim) (fun y49 H locs hw hI => ?_)
        exact hv_aret (r := some a48) E hr (Or.inl ⟨_, rfl⟩) hlocks hI hu hw dX6_span_47
    refine lv_iload_n E.1 E.2.1 dX6_span_12 rfl (lv_at hl 1 rfl) ?_
    refine lv_if_eq (tgt := 22) E.1 E.2.1 dX6_span_13 (by decide) (fun c50 => ?_) (fun c50 => ?_)
    · replace hw := hw.1 (bi_z c50)
      refine lv_sipush (v := nI 1499) E.1 E.2.1 dX6_span_22 rfl ?_
      exact jh8 _ _ _ _ _ hw _ _ _ hI (lv_sub hl [0, 1] rfl)
    · replace hw := hw.2 (bi_n c50)
      refine lv_sipush (v := nI 999) E.1 E.2.1 dX6_span_16 rfl ?_
      refine lv_goto (tgt := 25) E.1 E.2.1 dX6_span_19 (by decide) ?_
      exact jh8 _ _ _ _ _ hw _ _ _ hI (lv_sub hl [0, 1] rfl)
  refine hv_aload_n (r := some a0) E.1 E.2.1 dX6_span_0 rfl (lv_at hl 0 rfl) ?_
  refine lv_iload_n E.1 E.2.1 dX6_span_1 rfl (lv_at hl 1 rfl) ?_
  refine lv_if_eq (tgt := 9) E.1 E.2.1 dX6_span_2 (by decide) (fun c52 => ?_) (fun c52 => ?_)
  · replace hw := hw.1 (bi_z c52)
    refine lv_sipush (v := nI 1000) E.1 E.2.1 dX6_span_9 rfl ?_
    exact jh2 _ _ _ _ hw _ _ _ hI (lv_sub hl [0, 1] rfl)
  · replace hw := hw.2 (bi_n c52)
    refine lv_iconst (v := nI 0) E.1 E.2.1 dX6_span_5 rfl ?_
    refine lv_goto (tgt := 12) E.1 E.2.1 dX6_span_6 (by decide) ?_
    exact jh2 _ _ _ _ hw _ _ _ hI (lv_sub hl [0, 1] rfl)
/-- CaseGrouper$Reader.spans(Ljava/util/ArrayList;)V -/
def wp_X6_spans (G : GP) (B : Nat) (post : HS → Prop) (xp : Nat → Nat → HS → Prop) (y0 : HS) (a0 : Nat) (p1 : Option Nat) : Prop := (∃ fs3, rd G y0 a0 (ob 4 fs3)) ∧ ∃ k4, 0 + k4 ≤ B ∧ wp_X6_span G k4 (fun r2 y1 => ∃ a5, p1 = some a5 ∧ (∃ fs8, rd G y1 a5 (ob 18 fs8)) ∧ ∃ k9, (0 + k4) + k9 ≤ B ∧ wp_J2_add G k9 (fun b7 y6 => ∃ I10 : Nat → HS → Nat → Prop, (∃ n16, I10 n16 y6 (((0 + k4) + k9)) ) ∧ ∀ (n11 : Nat) (y12 : HS) (u15 : Nat), I10 n11 y12 u15 → u15 ≤ B ∧ (∃ fs19, rd G y12 a0 (ob 4 fs19)) ∧ wp_X6_isSign G (fun b18 y17 => (b18 = false → post y17) ∧ (b18 = true → ∃ J21 : HS → Nat → Prop, (∀ (y23 : HS) (u24 : Nat), J21 y23 u24 → u24 ≤ B ∧ (∃ fs27, rd G y23 a0 (ob 4 fs27)) ∧ ∃ k28, u24 + k28 ≤ B ∧ wp_X6_span G k28 (fun r26 y25 => (∃ fs31, rd G y25 a5 (ob 18 fs31)) ∧ ∃ k32, (u24 + k28) + k32 ≤ B ∧ wp_J2_add G k32 (fun b30 y29 => ∃ n33, n33 < n11 ∧ I10 n33 y29 (((u24 + k28) + k32)) ) y25 a5 r26) xp y23 a0 true) ∧ ((∃ fs35, rd G y17 a0 (ob 4 fs35)) ∧ ∃ k36, u15 + k36 ≤ B ∧ wp_X6_next G k36 (fun y34 => (∃ fs39, rd G y34 a5 (ob 18 fs39)) ∧ wp_J2_size G (fun x38 y37 => (¬ x38 = (nI 3) → J21 y37 ((u15 + k36)) ) ∧ (x38 = (nI 3) → ∃ f41, fR y37 a0 4 4 f41 ∧ ∃ b42, isIn G y37 f41 5 b42 ∧ (b42 = false → J21 y37 ((u15 + k36)) ) ∧ (b42 = true → isOf G y37 f41 5 ∧ ∃ a44, f41 = some a44 ∧ ∃ f45, fI y37 a44 5 0 f45 ∧ wp_X1_isDiagnosis G (fun b47 y46 => (b47 = false → J21 y46 ((u15 + k36)) ) ∧ (b47 = true → (∃ fs51, rd G y46 a0 (ob 4 fs51)) ∧ ∃ k52, (u15 + k36) + k52 ≤ B ∧ wp_X6_wrong G k52 (fun r50 y49 => ∃ a53, r50 = some a53 ∧ ∃ fs54, y49.1 a53 = some (ob 6 fs54) ∧ xp 6 a53 y49) y46 a0 (nI 4))) y37 f45))) y34 a5) y17 a0))) y12 a0 (nI 44)) y1 a5 r2) xp y0 a0 true
theorem hs_X6_spans : yX6_spans.cls ≠ "java/lang/invoke/MethodHandle" ∧ yX6_spans.cls ≠ "java/lang/invoke/VarHandle" ∧ (parseMethodDescriptor yX6_spans.desc).map (fun d => d.parameters.length) = some 1 := by decide +kernel
theorem hd_X6_spans : yX6_spans.cls = RX6 ∧ yX6_spans.cls ≠ "java/lang/invoke/MethodHandle" ∧ yX6_spans.cls ≠ "java/lang/invoke/VarHandle" ∧ (parseMethodDescriptor yX6_spans.desc).map (fun d => d.parameters.length) = some 1 := by decide +kernel
set_option maxHeartbeats 4000000 in
theorem met_X6_spans (l : Launch) (htr : l.stackTraces = false) (G : GP) (d : Nat) {B : Nat} {post : HS → Prop} {xp : Nat → Nat → HS → Prop} {y0 : HS} {a0 : Nat} {p1 : Option Nat} (hw : wp_X6_spans G B post xp y0 a0 p1) : vx_Met l yX6_spans (ws_ yX6_spans cX6_spans 4 none) (rmB (d + 232) B) (hPc G y0 [va_rf (some a0), va_rf p1]) (hQv G y0 post) (hX G y0 xp) B (20 * B) (HA y0) := by
  unfold wp_X6_spans at hw
  refine hv_met (own := RX6) (by decide) rfl (by simp [lg_sl, va_rf_cat, int_cat, long_cat]) ?_
  intro p e s m args below meth c ls E hr hlocks hnm hE hK hI hl
  replace hl : lv_has ls 4 [(0, va_rf (some a0)), (1, va_rf p1)] := by simpa [lv_args, va_rf_cat, int_cat, long_cat] using hl
  have hu : 0 ≤ B := Nat.zero_le _
  refine hv_aload_n (r := p1) E.1 E.2.1 dX6_spans_0 rfl (lv_at hl 1 rfl) ?_
  refine hv_aload_n (r := some a0) E.1 E.2.1 dX6_spans_1 rfl (lv_at hl 0 rfl) ?_
  refine lv_iconst (v := nI 1) E.1 E.2.1 dX6_spans_2 rfl ?_
  obtain ⟨⟨fs3, hrv⟩, hw⟩ := hw
  obtain ⟨k4, hB, hw⟩ := hw
  have hq := hw
  clear hw
  refine hv_callq (u := 0) (B1 := k4) hI (vx_runV (As := [.int (nI 1)]) (rest := [va_rf p1]) E (met_X6_span l htr G (d) hq) (cwV 1 E.2.2.2.2 (lw_V q835 q837 qs17 q129 q838) rfl rfl rfl hd_X6_span (rm_ok (by omega) (by decide))) (hv_preV hK hI hrv rfl) rfl rfl hl.1 rfl (lv_room (by first | rfl | decide | (simp [va_rf_cat, int_cat, long_cat]; done) | (simp [va_rf_cat, int_cat, long_cat]; decide))) dX6_spans_3 (hv_fit (by first | exact hB | omega))) (fun ec q y1 H locs hx hI hc => hv_out hE hlocks hI hc (by first | exact hB | omega) hx) (fun r2 y1 H locs hw hI => ?_)
  have hu := hB
  obtain ⟨a5, ea5, hw⟩ := hw
  revert hl hw; subst ea5; intro hl hw
  obtain ⟨⟨fs8, hrv⟩, hw⟩ := hw
  obtain ⟨k9, hB, hw⟩ := hw
  have hq := hw
  clear hw
  refine hv_callz (u := ((0 + k4))) (B1 := k9) hI (vx_runV (As := [va_rf r2]) (rest := []) E (met_J2_add l G (d + 225) hq) (cwV 1 E.2.2.2.2 (lw_V q909 q910 q911 q124 q912) rfl rfl rfl hd_J2_add (rm_ok (by omega) (by decide))) (hv_preV hK hI hrv rfl) rfl rfl hl.1 rfl (lv_room (by first | rfl | decide | (simp [va_rf_cat, int_cat, long_cat]; done) | (simp [va_rf_cat, int_cat, long_cat]; decide))) dX6_spans_6 (hv_fit (by first | exact hB | omega))) (fun _ _ _ _ _ h => h.elim) (fun b7 y6 H locs hw hI => ?_)
  have hu := hB
  refine lv_pop E.1 E.2.1 dX6_spans_9 rfl ?_
  obtain ⟨I10, ⟨n16, hi57⟩, hb56⟩ := hw
  have L14 : ∀ (n11 : Nat) (y12 : HS) (u15 : Nat), I10 n11 y12 u15 → ∀ (H : Heap) (locs : List Loc) (ls : Array Slot), HI G y0 y12 s H locs → lv_has ls 4 [(0, va_rf (some a0)), (1, va_rf (some a5))] → W p l e (rmB (d + 232) B) s m args below meth c H locs u15 (20 * u15) (vx_MQ below (hQv G y0 post) (hX G y0 xp) args s B (20 * B) (HA y0)) (F0 m 10 ls []) := by
    intro n11
    induction n11 using Nat.strongRecOn with
    | _ n11 ih13 =>
      intro y12 u15 hw H locs ls hI hl
      replace hw := hb56 n11 y12 u15 hw
      obtain ⟨hu, hw⟩ := hw
      refine hv_aload_n (r := some a0) E.1 E.2.1 dX6_spans_10 rfl (lv_at hl 0 rfl) ?_
      refine lv_bipush (v := nI 44) E.1 E.2.1 dX6_spans_11 rfl ?_
      obtain ⟨⟨fs19, hrv⟩, hw⟩ := hw
      have hq := hw
      clear hw
      refine hv_callz (u := u15) (B1 := 0) hI (vx_runV (As := [.int (nI 44)]) (rest := []) E (met_X6_isSign l htr G (d + 230) hq) (cwV 1 E.2.2.2.2 (lw_V q969 q971 qs23 q129 q972) rfl rfl rfl hd_X6_isSign (rm_ok (by omega) (by decide))) (hv_preV hK hI hrv rfl) rfl rfl hl.1 rfl (lv_room (by first | rfl | decide | (simp [va_rf_cat, int_cat, long_cat]; done) | (simp [va_rf_cat, int_cat, long_cat]; decide))) dX6_spans_13 (hv_fit (by first | exact hu | omega))) (fun _ _ _ _ _ h => h.elim) (fun b18 y17 H locs hw hI => ?_)
      refine lv_if_eq (tgt := 77) E.1 E.2.1 dX6_spans_16 (by decide) (fun c20 => ?_) (fun c20 => ?_)
      · replace hw := hw.1 (bi_z c20)
        exact hv_vret E hr hlocks hI hu hw dX6_spans_77
      · replace hw := hw.2 (bi_n c20)
        obtain ⟨J21, hj55, hw⟩ := hw
        have jh22 : ∀ (y23 : HS) (u24 : Nat), J21 y23 u24 → ∀ (H : Heap) (locs : List Loc) (ls : Array Slot), HI G y0 y23 s H locs → lv_has ls 4 [(0, va_rf (some a0)), (1, va_rf (some a5))] → W p l e (rmB (d + 232) B) s m args below meth c H locs u24 (20 * u24) (vx_MQ below (hQv G y0 post) (hX G y0 xp) args s B (20 * B) (HA y0)) (F0 m 64 ls []) := by
          intro y23 u24 hw H locs ls hI hl
          replace hw := hj55 y23 u24 hw
          obtain ⟨hu, hw⟩ := hw
          refine hv_aload_n (r := some a5) E.1 E.2.1 dX6_spans_64 rfl (lv_at hl 1 rfl) ?_
          refine hv_aload_n (r := some a0) E.1 E.2.1 dX6_spans_65 rfl (lv_at hl 0 rfl) ?_
          refine lv_iconst (v := nI 1) E.1 E.2.1 dX6_spans_66 rfl ?_
          obtain ⟨⟨fs27, hrv⟩, hw⟩ := hw
          obtain ⟨k28, hB, hw⟩ := hw
          have hq := hw
          clear hw
          refine hv_callq (u := u24) (B1 := k28) hI (vx_runV (As := [.int (nI 1)]) (rest := [va_rf (some a5)]) E (met_X6_span l htr G (d) hq) (cwV 1 E.2.2.2.2 (lw_V q835 q837 qs17 q129 q838) rfl rfl rfl hd_X6_span (rm_ok (by omega) (by decide))) (hv_preV hK hI hrv rfl) rfl rfl hl.1 rfl (lv_room (by first | rfl | decide | (simp [va_rf_cat, int_cat, long_cat]; done) | (simp [va_rf_cat, int_cat, long_cat]; decide))) dX6_spans_67 (hv_fit (by first | exact hB | omega))) (fun ec q y1 H locs hx hI hc => hv_out hE hlocks hI hc (by first | exact hB | omega) hx) (fun r26 y25 H locs hw hI => ?_)
          have hu := hB
          obtain ⟨⟨fs31, hrv⟩, hw⟩ := hw
          obtain ⟨k32, hB, hw⟩ := hw
          have hq := hw
          clear hw
          refine hv_callz (u := ((u24 + k28))) (B1 := k32) hI (vx_runV (As := [va_rf r26]) (rest := []) E (met_J2_add l G (d + 225) hq) (cwV 1 E.2.2.2.2 (lw_V q909 q910 q911 q124 q912) rfl rfl rfl hd_J2_add (rm_ok (by omega) (by decide))) (hv_preV hK hI hrv rfl) rfl rfl hl.1 rfl (lv_room (by first | rfl | decide | (simp [va_rf_cat, int_cat, long_cat]; done) | (simp [va_rf_cat, int_cat, long_cat]; decide))) dX6_spans_70 (hv_fit (by first | exact hB | omega))) (fun _ _ _ _ _ h => h.elim) (fun b30 y29 H locs hw hI => ?_)
          have hu := hB
          refine lv_pop E.1 E.2.1 dX6_spans_73 rfl ?_
          refine lv_goto (tgt := 10) E.1 E.2.1 dX6_spans_74 (by decide) ?_
          obtain ⟨n33, hnn33, hin33⟩ := hw
          exact ih13 n33 hnn33 _ _ hin33 _ _ _ hI (lv_sub hl [0, 1] rfl)
        refine hv_aload_n (r := some a0) E.1 E.2.1 dX6_spans_19 rfl (lv_at hl 0 rfl) ?_
        obtain ⟨⟨fs35, hrv⟩, hw⟩ := hw
        obtain ⟨k36, hB, hw⟩ := hw
        have hq := hw
        clear hw
        refine hv_callv (u := u15) (B1 := k36) hI (vx_runV (As := []) (rest := []) E (met_X6_next l htr G (d + 224) hq) (cwV 0 E.2.2.2.2 (lw_V q314 q316 qs1 q129 q317) rfl rfl rfl hd_X6_next (rm_ok (by omega) (by decide))) (hv_preV hK hI hrv rfl) rfl rfl hl.1 rfl (lv_room (by first | rfl | decide | (simp [va_rf_cat, int_cat, long_cat]; done) | (simp [va_rf_cat, int_cat, long_cat]; decide))) dX6_spans_20 (hv_fit (by first | exact hB | omega))) (fun _ _ _ _ _ h => h.elim) (fun y34 H locs hw hI => ?_)
        have hu := hB
        refine hv_aload_n (r := some a5) E.1 E.2.1 dX6_spans_23 rfl (lv_at hl 1 rfl) ?_
        obtain ⟨⟨fs39, hrv⟩, hw⟩ := hw
        have hq := hw
        clear hw
        refine hv_calli (u := ((u15 + k36))) (B1 := 0) hI (vx_runV (As := []) (rest := []) E (met_J2_size l G (d + 231) hq) (cwV 0 E.2.2.2.2 (lw_V q751 q752 q753 q124 q754) rfl rfl rfl hd_J2_size (rm_ok (by omega) (by decide))) (hv_preV hK hI hrv rfl) rfl rfl hl.1 rfl (lv_room (by first | rfl | decide | (simp [va_rf_cat, int_cat, long_cat]; done) | (simp [va_rf_cat, int_cat, long_cat]; decide))) dX6_spans_24 (hv_fit (by first | exact hu | omega))) (fun _ _ _ _ _ h => h.elim) (fun x38 y37 H locs hw hI => ?_)
        refine lv_iconst (v := nI 3) E.1 E.2.1 dX6_spans_27 rfl ?_
        refine lv_icmp_ne (tgt := 64) E.1 E.2.1 dX6_spans_28 (by decide) (fun c40 => ?_) (fun c40 => ?_)
        · replace hw := hw.1 (c40)
          exact jh22 _ _ hw _ _ _ hI (lv_sub hl [0, 1] rfl)
        · replace hw := hw.2 (c40)
          refine hv_aload_n (r := some a0) E.1 E.2.1 dX6_spans_31 rfl (lv_at hl 0 rfl) ?_
          obtain ⟨f41, ⟨fs, hfs, hfk⟩, hw⟩ := hw
          refine hv_get (v := va_rf f41) E hK hI ciX6 4 (Nat.le_of_ble_eq_true rfl) q281 (fun _ h => h) (Or.inl hfs) hfk dX6_spans_32 ?_
          refine hv_astore_n (r := f41) (lv' := [(3, va_rf f41), (0, va_rf (some a0)), (1, va_rf (some a5))]) E.1 E.2.1 dX6_spans_35 rfl hl (Nat.le_of_ble_eq_true rfl) (by first | rfl | decide | (simp [va_rf_cat, int_cat, long_cat]; done) | (simp [va_rf_cat, int_cat, long_cat]; decide)) (fun ls hl => ?_)
          refine hv_aload_n (r := f41) E.1 E.2.1 dX6_spans_36 rfl (lv_at hl 0 rfl) ?_
          obtain ⟨b42, hin, hw⟩ := hw
          refine hv_inst (cn := 5) E hK hI (by decide) q563 hin dX6_spans_37 ?_
          refine lv_if_eq (tgt := 64) E.1 E.2.1 dX6_spans_40 (by decide) (fun c43 => ?_) (fun c43 => ?_)
          · replace hw := hw.1 (bi_z c43)
            exact jh22 _ _ hw _ _ _ hI (lv_sub hl [1, 2] rfl)
          · replace hw := hw.2 (bi_n c43)
            refine hv_aload_n (r := f41) E.1 E.2.1 dX6_spans_43 rfl (lv_at hl 0 rfl) ?_
            obtain ⟨hof, hw⟩ := hw
            refine hv_castC (cn := 5) E hK hI (by decide) q563 hof dX6_spans_44 ?_
            refine hv_astore_n (r := f41) (lv' := [(2, va_rf f41), (3, va_rf f41), (0, va_rf (some a0)), (1, va_rf (some a5))]) E.1 E.2.1 dX6_spans_47 rfl hl (Nat.le_of_ble_eq_true rfl) (by first | rfl | decide | (simp [va_rf_cat, int_cat, long_cat]; done) | (simp [va_rf_cat, int_cat, long_cat]; decide)) (fun ls hl => ?_)
            refine hv_aload_n (r := f41) E.1 E.2.1 dX6_spans_48 rfl (lv_at hl 0 rfl) ?_
            obtain ⟨a44, ea44, hw⟩ := hw
            revert hl hw; subst ea44; intro hl hw
            obtain ⟨f45, ⟨fs, hfs, hfk⟩, hw⟩ := hw
            refine hv_getN (v := .int f45) E hK hI ciX7 0 (Nat.le_of_ble_eq_true rfl) q570 (fun _ h => h) (Or.inl hfs) hfk dX6_spans_49 ?_
            have hq := hw
            clear hw
            refine hv_callz (u := ((u15 + k36))) (B1 := 0) hI (vx_runSN (As := [.int (f45)]) (rest := []) E (met_X1_isDiagnosis l G (d + 230) hq) ⟨va_cnB 1 E.2.2.2.2 (lw_meth q980) rfl rfl rfl (hK.2.2.2.2.1 _ q978 rfl) (E.2.2.2.2 _ q121) hs_X1_isDiagnosis (rm_ok (by omega) (by decide)), E.2.2.2.2 _ q979, trivial⟩ (hv_preS hK hI) rfl rfl hl.1 rfl (lv_room (by first | rfl | decide | (simp [va_rf_cat, int_cat, long_cat]; done) | (simp [va_rf_cat, int_cat, long_cat]; decide))) dX6_spans_52 (hv_fit (by first | exact hu | omega))) (fun _ _ _ _ _ h => h.elim) (fun b47 y46 H locs hw hI => ?_)
            refine lv_if_eq (tgt := 64) E.1 E.2.1 dX6_spans_55 (by decide) (fun c48 => ?_) (fun c48 => ?_)
            · replace hw := hw.1 (bi_z c48)
              exact jh22 _ _ hw _ _ _ hI (lv_sub hl [2, 3] rfl)
            · replace hw := hw.2 (bi_n c48)
              refine hv_aload_n (r := some a0) E.1 E.2.1 dX6_spans_58 rfl (lv_at hl 2 rfl) ?_
              refine lv_iconst (v := nI 4) E.1 E.2.1 dX6_spans_59 rfl ?_
              obtain ⟨⟨fs51, hrv⟩, hw⟩ := hw
              obtain ⟨k52, hB, hw⟩ := hw
              have hq := hw
              clear hw
              refine hv_callq (u := ((u15 + k36))) (B1 := k52) hI (vx_runV (As := [.int (nI 4)]) (rest := []) E (met_X6_wrong l htr G (d + 227) hq) (cwV 1 E.2.2.2.2 (lw_V q598 q600 qs10 q129 q601) rfl rfl rfl hd_X6_wrong (rm_ok (by omega) (by decide))) (hv_preV hK hI hrv rfl) rfl rfl hl.1 rfl (lv_room (by first | rfl | decide | (simp [va_rf_cat, int_cat, long_cat]; done) | (simp [va_rf_cat, int_cat, long_cat]; decide))) dX6_spans_60 (hv_fit (by first | exact hB | omega))) (fun _ _ _ _ _ h => h.elim) (fun r50 y49 H locs hw hI => ?_)
              have hu := hB
              obtain ⟨a53, ea53, hw⟩ := hw
              revert hl hw; subst ea53; intro hl hw
              obtain ⟨fs54, hfs, hw⟩ := hw
              refine hv_athrow (q := a53) E dX6_spans_63 ?_
              exact hv_out hE hlocks hI (hI.xcell hK (by decide) hfs) hu hw
  exact L14 n16 _ _ hi57 _ _ _ hI (lv_sub hl [0, 1] rfl)
/-- CaseGrouper$Reader.chapter()V -/
def wp_X6_chapter (G : GP) (B : Nat) (post : HS → Prop) (xp : Nat → Nat → HS → Prop) (y0 : HS) (a0 : Nat) : Prop := ∃ J1 : HS → Nat → Bool → (Option Nat) → Prop, (∀ (y3 : HS) (u6 : Nat) (b4 : Bool) (r5 : Option Nat), J1 y3 u6 b4 r5 → u6 ≤ B ∧ ∃ J7 : HS → Nat → (Option Nat) → Bool → (Option Nat) → Prop, (∀ (y9 : HS) (u13 : Nat) (r10 : Option Nat) (b11 : Bool) (r12 : Option Nat), J7 y9 u13 r10 b11 r12 → u13 ≤ B ∧ ∃ a14, r12 = some a14 ∧ (∃ fs16, rd G y9 a14 (ob 4 fs16)) ∧ ∃ k17, u13 + k17 ≤ B ∧ wp_X6_must G k17 (fun y15 => (∃ fs19, rd G y15 a0 (ob 4 fs19)) ∧ ∃ k20, (u13 + k17) + k20 ≤ B ∧ wp_X6_next G k20 (fun y18 => ((u13 + k17) + k20) + 1 ≤ B ∧ ∀ a22, a22 = y18.2 → ∀ y21, y21 = hnew y18 (ob 7 [va_rf none, va_rf none, va_rf none, va_rf none, va_rf none]) → ∃ k24, (((u13 + k17) + k20) + 1) + k24 ≤ B ∧ wp_X9_init G k24 (fun y23 => ∃ f25, fR y23 a22 7 1 f25 ∧ (∃ fs27, rd G y23 a0 (ob 4 fs27)) ∧ ∃ k28, ((((u13 + k17) + k20) + 1) + k24) + k28 ≤ B ∧ wp_X6_spans G k28 (fun y26 => ∃ f29, fR y26 a0 4 1 f29 ∧ ∃ a30, f29 = some a30 ∧ ∃ f31, fR y26 a30 1 0 f31 ∧ ∃ a32, f31 = some a32 ∧ (∃ fs35, rd G y26 a32 (ob 18 fs35)) ∧ ∃ k36, (((((u13 + k17) + k20) + 1) + k24) + k28) + k36 ≤ B ∧ wp_J2_add G k36 (fun b34 y33 => post y33) y26 a32 (some a22)) xp y23 a0 f25) y21 a22 r10) y15 a0) xp y9 a14 b11 (nI 3)) ∧ (∃ a37, r5 = some a37 ∧ (∃ fs39, rd G y3 a37 (ob 4 fs39)) ∧ ∃ k40, u6 + k40 ≤ B ∧ wp_X6_must G k40 (fun y38 => (∃ fs42, rd G y38 a0 (ob 4 fs42)) ∧ ∃ k43, (u6 + k40) + k43 ≤ B ∧ wp_X6_next G k43 (fun y41 => (∃ fs46, rd G y41 a0 (ob 4 fs46)) ∧ ∃ k47, ((u6 + k40) + k43) + k47 ≤ B ∧ wp_X6_name G k47 (fun r45 y44 => ∃ f48, fR y44 a0 4 1 f48 ∧ ∃ a49, f48 = some a49 ∧ (∃ fs52, rd G y44 a49 (ob 1 fs52)) ∧ wp_X2_find G (fun r51 y50 => (r51 = none → J7 y50 ((((u6 + k40) + k43) + k47)) r45 true (some a0)) ∧ (∀ a54, r51 = some a54 → J7 y50 ((((u6 + k40) + k43) + k47)) r45 false (some a0))) y44 a49 r45) xp y41 a0) y38 a0) xp y3 a37 b4 (nI 4))) ∧ (∃ f56, fR y0 a0 4 1 f56 ∧ ∃ a57, f56 = some a57 ∧ ∃ f58, fR y0 a57 1 0 f58 ∧ ∃ a59, f58 = some a59 ∧ (∃ fs62, rd G y0 a59 (ob 18 fs62)) ∧ wp_J2_size G (fun x61 y60 => ((nI 6) ≤ x61 → J1 y60 0 false (some a0)) ∧ (¬ (nI 6) ≤ x61 → J1 y60 0 true (some a0))) y0 a59)
theorem hs_X6_chapter : yX6_chapter.cls ≠ "java/lang/invoke/MethodHandle" ∧ yX6_chapter.cls ≠ "java/lang/invoke/VarHandle" ∧ (parseMethodDescriptor yX6_chapter.desc).map (fun d => d.parameters.length) = some 0 := by decide +kernel
theorem hd_X6_chapter : yX6_chapter.cls = RX6 ∧ yX6_chapter.cls ≠ "java/lang/invoke/MethodHandle" ∧ yX6_chapter.cls ≠ "java/lang/invoke/VarHandle" ∧ (parseMethodDescriptor yX6_chapter.desc).map (fun d => d.parameters.length) = some 0 := by decide +kernel
set_option maxHeartbeats 4000000 in
theorem met_X6_chapter (l : Launch) (htr : l.stackTraces = false) (G : GP) (d : Nat) {B : Nat} {post : HS → Prop} {xp : Nat → Nat → HS → Prop} {y0 : HS} {a0 : Nat} (hw : wp_X6_chapter G B post xp y0 a0) : vx_Met l yX6_chapter (ws_ yX6_chapter cX6_chapter 3 none) (rmB (d + 233) B) (hPc G y0 [va_rf (some a0)]) (hQv G y0 post) (hX G y0 xp) B (20 * B) (HA y0) := by
  unfold wp_X6_chapter at hw
  refine hv_met (own := RX6) (by decide) rfl (Nat.le_of_ble_eq_true rfl) ?_
  intro p e s m args below meth c ls E hr hlocks hnm hE hK hI hl
  replace hl : lv_has ls 3 [(0, va_rf (some a0))] := hl
  have hu : 0 ≤ B := Nat.zero_le _
  obtain ⟨J1, hj64, hw⟩ := hw
  have jh2 : ∀ (y3 : HS) (u6 : Nat) (b4 : Bool) (r5 : Option Nat), J1 y3 u6 b4 r5 → ∀ (H : Heap) (locs : List Loc) (ls : Array Slot), HI G y0 y3 s H locs → lv_has ls 3 [(0, va_rf (some a0))] → W p l e (rmB (d + 233) B) s m args below meth c H locs u6 (20 * u6) (vx_MQ below (hQv G y0 post) (hX G y0 xp) args s B (20 * B) (HA y0)) (F0 m 21 ls [.int (bi b4), va_rf r5]) := by
    intro y3 u6 b4 r5 hw H locs ls hI hl
    replace hw := hj64 y3 u6 b4 r5 hw
    obtain ⟨hu, hw⟩ := hw
    obtain ⟨J7, hj55, hw⟩ := hw
    have jh8 : ∀ (y9 : HS) (u13 : Nat) (r10 : Option Nat) (b11 : Bool) (r12 : Option Nat), J7 y9 u13 r10 b11 r12 → ∀ (H : Heap) (locs : List Loc) (ls : Array Slot), HI G y0 y9 s H locs → lv_has ls 3 [(0, va_rf (some a0)), (1, va_rf r10)] → W p l e (rmB (d + 233) B) s m args below meth c H locs u13 (20 * u13) (vx_MQ below (hQv G y0 post) (hX G y0 xp) args s B (20 * B) (HA y0)) (F0 m 51 ls [.int (bi b11), va_rf r12]) := by
      intro y9 u13 r10 b11 r12 hw H locs ls hI hl
      replace hw := hj55 y9 u13 r10 b11 r12 hw
      obtain ⟨hu, hw⟩ := hw
      refine lv_iconst (v := nI 3) E.1 E.2.1 dX6_chapter_51 rfl ?_
      obtain ⟨a14, ea14, hw⟩ := hw
      revert hl hw; subst ea14; intro hl hw
      obtain ⟨⟨fs16, hrv⟩, hw⟩ := hw
      obtain ⟨k17, hB, hw⟩ := hw
      have hq := hw
      clear hw
      refine hv_callv (u := u13) (B1 := k17) hI (vx_runV (As := [.int (bi b11), .int (nI 3)]) (rest := []) E (met_X6_must l htr G (d + 227) hq) (cwV 2 E.2.2.2.2 (lw_V q594 q596 qs9 q129 q597) rfl rfl rfl hd_X6_must (rm_ok (by omega) (by decide))) (hv_preV hK hI hrv rfl) rfl rfl hl.1 rfl (lv_room (by first | rfl | decide | (simp [va_rf_cat, int_cat, long_cat]; done) | (simp [va_rf_cat, int_cat, long_cat]; decide))) dX6_chapter_52 (hv_fit (by first | exact hB | omega))) (fun ec q y1 H locs hx hI hc => hv_out hE hlocks hI hc (by first | exact hB | omega) hx) (fun y15 H locs hw hI => ?_)
      have hu := hB
      refine hv_aload_n (r := some a0) E.1 E.2.1 dX6_chapter_55 rfl (lv_at hl 0 rfl) ?_
      obtain ⟨⟨fs19, hrv⟩, hw⟩ := hw
      obtain ⟨k20, hB, hw⟩ := hw
      have hq := hw
      clear hw
      refine hv_callv (u := ((u13 + k17))) (B1 := k20) hI (vx_runV (As := []) (rest := []) E (met_X6_next l htr G (d + 225) hq) (cwV 0 E.2.2.2.2 (lw_V q314 q316 qs1 q129 q317) rfl rfl rfl hd_X6_next (rm_ok (by omega) (by decide))) (hv_preV hK hI hrv rfl) rfl rfl hl.1 rfl (lv_room (by first | rfl | decide | (simp [va_rf_cat, int_cat, long_cat]; done) | (simp [va_rf_cat, int_cat, long_cat]; decide))) dX6_chapter_56 (hv_fit (by first | exact hB | omega))) (fun _ _ _ _ _ h => h.elim) (fun y18 H locs hw hI => ?_)
      have hu := hB
      obtain ⟨hu, hw⟩ := hw
      refine hv_new (fs := [va_rf none, va_rf none, va_rf none, va_rf none, va_rf none]) E hK hI ciX9 q798 q799 q150 (df7) (Nat.le_of_ble_eq_true rfl) hu dX6_chapter_59 (fun H hI => ?_)
      obtain ⟨a22, ea22⟩ : ∃ w, w = y18.2 := ⟨_, rfl⟩
      obtain ⟨y21, ey21⟩ : ∃ w, w = hnew y18 (ob 7 [va_rf none, va_rf none, va_rf none, va_rf none, va_rf none]) := ⟨_, rfl⟩
      rw [← ea22]
      rw [← ey21] at hI
      replace hw := hw a22 ea22 y21 ey21
      refine hv_dup E.1 E.2.1 dX6_chapter_62 ?_
      refine hv_aload_n (r := r10) E.1 E.2.1 dX6_chapter_63 rfl (lv_at hl 1 rfl) ?_
      obtain ⟨k24, hB, hw⟩ := hw
      have hq := hw
      clear hw
      refine hv_callv (u := ((((u13 + k17) + k20) + 1))) (B1 := k24) hI (vx_runI (b := a22) (As := [va_rf r10]) (rest := [va_rf (some a22)]) E (met_X9_init l G (d + 228) hq) (cwI 1 E.2.2.2.2 (lw_meth q802) rfl rfl rfl (E.2.2.2.2 _ q150) (E.2.2.2.2 _ q800) (E.2.2.2.2 _ q801) rfl hs_X9_init (rm_ok (by omega) (by decide))) (hv_preS hK hI) rfl rfl hl.1 rfl (lv_room (by first | rfl | decide | (simp [va_rf_cat, int_cat, long_cat]; done) | (simp [va_rf_cat, int_cat, long_cat]; decide))) dX6_chapter_64 (hv_fit (by first | exact hB | omega))) (fun _ _ _ _ _ h => h.elim) (fun y23 H locs hw hI => ?_)
      have hu := hB
      refine hv_astore_n (r := some a22) (lv' := [(2, va_rf (some a22)), (0, va_rf (some a0)), (1, va_rf r10)]) E.1 E.2.1 dX6_chapter_67 rfl hl (Nat.le_of_ble_eq_true rfl) (by first | rfl | decide | (simp [va_rf_cat, int_cat, long_cat]; done) | (simp [va_rf_cat, int_cat, long_cat]; decide)) (fun ls hl => ?_)
      refine hv_aload_n (r := some a0) E.1 E.2.1 dX6_chapter_68 rfl (lv_at hl 1 rfl) ?_
      refine hv_aload_n (r := some a22) E.1 E.2.1 dX6_chapter_69 rfl (lv_at hl 0 rfl) ?_
      obtain ⟨f25, ⟨fs, hfs, hfk⟩, hw⟩ := hw
      refine hv_getN (v := va_rf f25) E hK hI ciX9 1 (Nat.le_of_ble_eq_true rfl) q810 (fun _ h => h) (Or.inl hfs) hfk dX6_chapter_70 ?_
      obtain ⟨⟨fs27, hrv⟩, hw⟩ := hw
      obtain ⟨k28, hB, hw⟩ := hw
      have hq := hw
      clear hw
      refine hv_callv (u := (((((u13 + k17) + k20) + 1) + k24))) (B1 := k28) hI (vx_runV (As := [va_rf f25]) (rest := []) E (met_X6_spans l htr G (d) hq) (cwV 1 E.2.2.2.2 (lw_V q831 q833 qs16 q129 q834) rfl rfl rfl hd_X6_spans (rm_ok (by omega) (by decide))) (hv_preV hK hI hrv rfl) rfl rfl hl.1 rfl (lv_room (by first | rfl | decide | (simp [va_rf_cat, int_cat, long_cat]; done) | (simp [va_rf_cat, int_cat, long_cat]; decide))) dX6_chapter_73 (hv_fit (by first | exact hB | omega))) (fun ec q y1 H locs hx hI hc => hv_out hE hlocks hI hc (by first | exact hB | omega) hx) (fun y26 H locs hw hI => ?_)
      have hu := hB
      refine hv_aload_n (r := some a0) E.1 E.2.1 dX6_chapter_76 rfl (lv_at hl 1 rfl) ?_
      obtain ⟨f29, ⟨fs, hfs, hfk⟩, hw⟩ := hw
      refine hv_get (v := va_rf f29) E hK hI ciX6 1 (Nat.le_of_ble_eq_true rfl) q278 (fun _ h => h) (Or.inl hfs) hfk dX6_chapter_77 ?_
      obtain ⟨a30, ea30, hw⟩ := hw
      revert hl hw; subst ea30; intro hl hw
      obtain ⟨f31, ⟨fs, hfs, hfk⟩, hw⟩ := hw
      refine hv_getN (v := va_rf f31) E hK hI ciX2 0 (Nat.le_of_ble_eq_true rfl) q232 (fun _ h => h) (Or.inl hfs) hfk dX6_chapter_80 ?_
      refine hv_aload_n (r := some a22) E.1 E.2.1 dX6_chapter_83 rfl (lv_at hl 0 rfl) ?_
      obtain ⟨a32, ea32, hw⟩ := hw
      revert hl hw; subst ea32; intro hl hw
      obtain ⟨⟨fs35, hrv⟩, hw⟩ := hw
      obtain ⟨k36, hB, hw⟩ := hw
      have hq := hw
      clear hw
      refine hv_callz (u := ((((((u13 + k17) + k20) + 1) + k24) + k28))) (B1 := k36) hI (vx_runV (As := [va_rf (some a22)]) (rest := []) E (met_J2_add l G (d + 226) hq) (cwV 1 E.2.2.2.2 (lw_V q909 q910 q911 q124 q912) rfl rfl rfl hd_J2_add (rm_ok (by omega) (by decide))) (hv_preV hK hI hrv rfl) rfl rfl hl.1 rfl (lv_room (by first | rfl | decide | (simp [va_rf_cat, int_cat, long_cat]; done) | (simp [va_rf_cat, int_cat, long_cat]; decide))) dX6_chapter_84 (hv_fit (by first | exact hB | omega))) (fun _ _ _ _ _ h => h.elim) (fun b34 y33 H locs hw hI => ?_)
      have hu := hB
      refine lv_pop E.1 E.2.1 dX6_chapter_87 rfl ?_
      exact hv_vret E hr hlocks hI hu hw dX6_chapter_88
    refine lv_iconst (v := nI 4) E.1 E.2.1 dX6_chapter_21 rfl ?_
    obtain ⟨a37, ea37, hw⟩ := hw
    revert hl hw; subst ea37; intro hl hw
    obtain ⟨⟨fs39, hrv⟩, hw⟩ := hw
    obtain ⟨k40, hB, hw⟩ := hw
    have hq := hw
    clear hw
    refine hv_callv (u := u6) (B1 := k40) hI (vx_runV (As := [.int (bi b4), .int (nI 4)]) (rest := []) E (met_X6_must l htr G (d + 227) hq) (cwV 2 E.2.2.2.2 (lw_V q594 q596 qs9 q129 q597) rfl rfl rfl hd_X6_must (rm_ok (by omega) (by decide))) (hv_preV hK hI hrv rfl) rfl rfl hl.1 rfl (lv_room (by first | rfl | decide | (simp [va_rf_cat, int_cat, long_cat]; done) | (simp [va_rf_cat, int_cat, long_cat]; decide))) dX6_chapter_22 (hv_fit (by first | exact hB | omega))) (fun ec q y1 H locs hx hI hc => hv_out hE hlocks hI hc (by first | exact hB | omega) hx) (fun y38 H locs hw hI => ?_)
    have hu := hB
    refine hv_aload_n (r := some a0) E.1 E.2.1 dX6_chapter_25 rfl (lv_at hl 0 rfl) ?_
    obtain ⟨⟨fs42, hrv⟩, hw⟩ := hw
    obtain ⟨k43, hB, hw⟩ := hw
    have hq := hw
    clear hw
    refine hv_callv (u := ((u6 + k40))) (B1 := k43) hI (vx_runV (As := []) (rest := []) E (met_X6_next l htr G (d + 225) hq) (cwV 0 E.2.2.2.2 (lw_V q314 q316 qs1 q129 q317) rfl rfl rfl hd_X6_next (rm_ok (by omega) (by decide))) (hv_preV hK hI hrv rfl) rfl rfl hl.1 rfl (lv_room (by first | rfl | decide | (simp [va_rf_cat, int_cat, long_cat]; done) | (simp [va_rf_cat, int_cat, long_cat]; decide))) dX6_chapter_26 (hv_fit (by first | exact hB | omega))) (fun _ _ _ _ _ h => h.elim) (fun y41 H locs hw hI => ?_)
    have hu := hB
    refine hv_aload_n (r := some a0) E.1 E.2.1 dX6_chapter_29 rfl (lv_at hl 0 rfl) ?_
    obtain ⟨⟨fs46, hrv⟩, hw⟩ := hw
    obtain ⟨k47, hB, hw⟩ := hw
    have hq := hw
    clear hw
    refine hv_callq (u := (((u6 + k40) + k43))) (B1 := k47) hI (vx_runV (As := []) (rest := []) E (met_X6_name l htr G (d + 226) hq) (cwV 0 E.2.2.2.2 (lw_V q755 q757 qs14 q129 q758) rfl rfl rfl hd_X6_name (rm_ok (by omega) (by decide))) (hv_preV hK hI hrv rfl) rfl rfl hl.1 rfl (lv_room (by first | rfl | decide | (simp [va_rf_cat, int_cat, long_cat]; done) | (simp [va_rf_cat, int_cat, long_cat]; decide))) dX6_chapter_30 (hv_fit (by first | exact hB | omega))) (fun ec q y1 H locs hx hI hc => hv_out hE hlocks hI hc (by first | exact hB | omega) hx) (fun r45 y44 H locs hw hI => ?_)
    have hu := hB
    refine hv_astore_n (r := r45) (lv' := [(1, va_rf r45), (0, va_rf (some a0))]) E.1 E.2.1 dX6_chapter_33 rfl hl (Nat.le_of_ble_eq_true rfl) (by first | rfl | decide | (simp [va_rf_cat, int_cat, long_cat]; done) | (simp [va_rf_cat, int_cat, long_cat]; decide)) (fun ls hl => ?_)
    refine hv_aload_n (r := some a0) E.1 E.2.1 dX6_chapter_34 rfl (lv_at hl 1 rfl) ?_
    refine hv_aload_n (r := some a0) E.1 E.2.1 dX6_chapter_35 rfl (lv_at hl 1 rfl) ?_
    obtain ⟨f48, ⟨fs, hfs, hfk⟩, hw⟩ := hw
    refine hv_get (v := va_rf f48) E hK hI ciX6 1 (Nat.le_of_ble_eq_true rfl) q278 (fun _ h => h) (Or.inl hfs) hfk dX6_chapter_36 ?_
    refine hv_aload_n (r := r45) E.1 E.2.1 dX6_chapter_39 rfl (lv_at hl 0 rfl) ?_
    obtain ⟨a49, ea49, hw⟩ := hw
    revert hl hw; subst ea49; intro hl hw
    obtain ⟨⟨fs52, hrv⟩, hw⟩ := hw
    have hq := hw
    clear hw
    refine hv_callq (u := ((((u6 + k40) + k43) + k47))) (B1 := 0) hI (vx_runV (As := [va_rf r45]) (rest := [va_rf (some a0)]) E (met_X2_find l G (d + 229) hq) (cwV 1 E.2.2.2.2 (lw_V q779 q780 q781 q125 q782) rfl rfl rfl hd_X2_find (rm_ok (by omega) (by decide))) (hv_preV hK hI hrv rfl) rfl rfl hl.1 rfl (lv_room (by first | rfl | decide | (simp [va_rf_cat, int_cat, long_cat]; done) | (simp [va_rf_cat, int_cat, long_cat]; decide))) dX6_chapter_40 (hv_fit (by first | exact hu | omega))) (fun _ _ _ _ _ h => h.elim) (fun r51 y50 H locs hw hI => ?_)
    refine hv_ifnonnull (r := r51) (tgt := 50) E.1 E.2.1 dX6_chapter_43 (by decide) (fun a54 c53 => ?_) (fun c53 => ?_)
    · replace hw := hw.2 a54 c53
      revert hl hw; subst c53; intro hl hw
      refine lv_iconst (v := nI 0) E.1 E.2.1 dX6_chapter_50 rfl ?_
      exact jh8 _ _ _ _ _ hw _ _ _ hI (lv_sub hl [1, 0] rfl)
    · replace hw := hw.1 c53
      refine lv_iconst (v := nI 1) E.1 E.2.1 dX6_chapter_46 rfl ?_
      refine lv_goto (tgt := 51) E.1 E.2.1 dX6_chapter_47 (by decide) ?_
      exact jh8 _ _ _ _ _ hw _ _ _ hI (lv_sub hl [1, 0] rfl)
  refine hv_aload_n (r := some a0) E.1 E.2.1 dX6_chapter_0 rfl (lv_at hl 0 rfl) ?_
  refine hv_aload_n (r := some a0) E.1 E.2.1 dX6_chapter_1 rfl (lv_at hl 0 rfl) ?_
  obtain ⟨f56, ⟨fs, hfs, hfk⟩, hw⟩ := hw
  refine hv_get (v := va_rf f56) E hK hI ciX6 1 (Nat.le_of_ble_eq_true rfl) q278 (fun _ h => h) (Or.inl hfs) hfk dX6_chapter_2 ?_
  obtain ⟨a57, ea57, hw⟩ := hw
  revert hl hw; subst ea57; intro hl hw
  obtain ⟨f58, ⟨fs, hfs, hfk⟩, hw⟩ := hw
  refine hv_getN (v := va_rf f58) E hK hI ciX2 0 (Nat.le_of_ble_eq_true rfl) q232 (fun _ h => h) (Or.inl hfs) hfk dX6_chapter_5 ?_
  obtain ⟨a59, ea59, hw⟩ := hw
  revert hl hw; subst ea59; intro hl hw
  obtain ⟨⟨fs62, hrv⟩, hw⟩ := hw
  have hq := hw
  clear hw
  refine hv_calli (u := 0) (B1 := 0) hI (vx_runV (As := []) (rest := [va_rf (some a0)]) E (met_J2_size l G (d + 232) hq) (cwV 0 E.2.2.2.2 (lw_V q751 q752 q753 q124 q754) rfl rfl rfl hd_J2_size (rm_ok (by omega) (by decide))) (hv_preV hK hI hrv rfl) rfl rfl hl.1 rfl (lv_room (by first | rfl | decide | (simp [va_rf_cat, int_cat, long_cat]; done) | (simp [va_rf_cat, int_cat, long_cat]; decide))) dX6_chapter_8 (hv_fit (by first | exact hu | omega))) (fun _ _ _ _ _ h => h.elim) (fun x61 y60 H locs hw hI => ?_)
  refine lv_bipush (v := nI 6) E.1 E.2.1 dX6_chapter_11 rfl ?_
  refine lv_icmp_ge (tgt := 20) E.1 E.2.1 dX6_chapter_13 (by decide) (fun c63 => ?_) (fun c63 => ?_)
  · replace hw := hw.1 (c63)
    refine lv_iconst (v := nI 0) E.1 E.2.1 dX6_chapter_20 rfl ?_
    exact jh2 _ _ _ _ hw _ _ _ hI (lv_sub hl [0] rfl)
  · replace hw := hw.2 (c63)
    refine lv_iconst (v := nI 1) E.1 E.2.1 dX6_chapter_16 rfl ?_
    refine lv_goto (tgt := 21) E.1 E.2.1 dX6_chapter_17 (by decide) ?_
    exact jh2 _ _ _ _ hw _ _ _ hI (lv_sub hl [0] rfl)
/-- CaseGrouper$Reader.number(II)I -/
def wp_X6_number (G : GP) (B : Nat) (post : Int32 → HS → Prop) (xp : Nat → Nat → HS → Prop) (y0 : HS) (a0 : Nat) (i1 : Int32) (i2 : Int32) : Prop := ∃ J1 : HS → Nat → (Option Nat) → Prop, (∀ (y3 : HS) (u5 : Nat) (r4 : Option Nat), J1 y3 u5 r4 → u5 ≤ B ∧ (∃ fs8, rd G y3 a0 (ob 4 fs8)) ∧ ∃ k9, u5 + k9 ≤ B ∧ wp_X6_wrong G k9 (fun r7 y6 => ∃ a10, r7 = some a10 ∧ ∃ fs11, y6.1 a10 = some (ob 6 fs11) ∧ xp 6 a10 y6) y3 a0 (nI 1)) ∧ (∃ f12, fR y0 a0 4 4 f12 ∧ ((isOf G y0 f12 21 ∧ ((f12 = none ∧ 0 + 60 ≤ B ∧ ∀ (q19 : Nat) (y20 : HS), y20.1 = y0.1 → y0.2 ≤ y20.2 → J1 y20 ((0 + 60)) (some q19)) ∨ (∃ a18, f12 = some a18 ∧ (∃ fs23, rd G y0 a18 (ob 21 fs23)) ∧ wp_J13_intValue G (fun x22 y21 => wp_X1_within G (fun b25 y24 => (∃ fs27, rd G y24 a0 (ob 4 fs27)) ∧ ∃ k28, 0 + k28 ≤ B ∧ wp_X6_must G k28 (fun y26 => (∃ fs30, rd G y26 a0 (ob 4 fs30)) ∧ ∃ k31, (0 + k28) + k31 ≤ B ∧ wp_X6_next G k31 (fun y29 => post x22 y29) y26 a0) (fun ec32 q33 y34 => ec32 = 6 ∧ xp 6 q33 y34) y24 a0 b25 (nI 2)) y21 x22 i1 i2) y0 a18))) ∨ (∃ (a15 ci16 : Nat) (fs17 : List Value), f12 = some a15 ∧ rd G y0 a15 (ob ci16 fs17) ∧ ci16 < 27 ∧ (cnm ci16, cnm 21) ∈ ncTab ∧ 0 + 60 ≤ B ∧ ∀ (q13 : Nat) (y14 : HS), y14.1 = y0.1 → y0.2 ≤ y14.2 → J1 y14 ((0 + 60)) (some q13))))
theorem hs_X6_number : yX6_number.cls ≠ "java/lang/invoke/MethodHandle" ∧ yX6_number.cls ≠ "java/lang/invoke/VarHandle" ∧ (parseMethodDescriptor yX6_number.desc).map (fun d => d.parameters.length) = some 2 := by decide +kernel
theorem hd_X6_number : yX6_number.cls = RX6 ∧ yX6_number.cls ≠ "java/lang/invoke/MethodHandle" ∧ yX6_number.cls ≠ "java/lang/invoke/VarHandle" ∧ (parseMethodDescriptor yX6_number.desc).map (fun d => d.parameters.length) = some 2 := by decide +kernel
set_option maxHeartbeats 4000000 in
theorem met_X6_number (l : Launch) (htr : l.stackTraces = false) (G : GP) (d : Nat) {B : Nat} {post : Int32 → HS → Prop} {xp : Nat → Nat → HS → Prop} {y0 : HS} {a0 : Nat} {i1 : Int32} {i2 : Int32} (hw : wp_X6_number G B post xp y0 a0 i1 i2) : vx_Met l yX6_number (wsW_ yX6_number cX6_number 4 (some .int) [(0, 27, 28, 140), (0, 27, 28, 142)]) (rmB (d + 230) B) (hPc G y0 [va_rf (some a0), .int (i1), .int (i2)]) (hQi G y0 post) (hX G y0 xp) B (20 * B) (HA y0) := by
  unfold wp_X6_number at hw
  refine hv_metH (hh := [(0, 27, 28, 140), (0, 27, 28, 142)]) (own := RX6) (by decide) rfl (Nat.le_of_ble_eq_true rfl) ?_
  intro p e s m args below meth c ls E hr hlocks hnm hE hK hI hl
  replace hl : lv_has ls 4 [(0, va_rf (some a0)), (1, .int (i1)), (2, .int (i2))] := hl
  have hu : 0 ≤ B := Nat.zero_le _
  obtain ⟨J1, hj35, hw⟩ := hw
  have jh2 : ∀ (y3 : HS) (u5 : Nat) (r4 : Option Nat), J1 y3 u5 r4 → ∀ (H : Heap) (locs : List Loc) (ls : Array Slot), HI G y0 y3 s H locs → lv_has ls 4 [(0, va_rf (some a0))] → W p l e (rmB (d + 230) B) s m args below meth c H locs u5 (20 * u5) (vx_MQ below (hQi G y0 post) (hX G y0 xp) args s B (20 * B) (HA y0)) (F0 m 28 ls [va_rf r4]) := by
    intro y3 u5 r4 hw H locs ls hI hl
    replace hw := hj35 y3 u5 r4 hw
    obtain ⟨hu, hw⟩ := hw
    refine hv_astore_n (r := r4) (lv' := [(3, va_rf r4), (0, va_rf (some a0))]) E.1 E.2.1 dX6_number_28 rfl hl (Nat.le_of_ble_eq_true rfl) (by first | rfl | decide | (simp [va_rf_cat, int_cat, long_cat]; done) | (simp [va_rf_cat, int_cat, long_cat]; decide)) (fun ls hl => ?_)
    refine hv_aload_n (r := some a0) E.1 E.2.1 dX6_number_29 rfl (lv_at hl 1 rfl) ?_
    refine lv_iconst (v := nI 1) E.1 E.2.1 dX6_number_30 rfl ?_
    obtain ⟨⟨fs8, hrv⟩, hw⟩ := hw
    obtain ⟨k9, hB, hw⟩ := hw
    have hq := hw
    clear hw
    refine hv_callq (u := u5) (B1 := k9) hI (vx_runV (As := [.int (nI 1)]) (rest := []) E (met_X6_wrong l htr G (d + 225) hq) (cwV 1 E.2.2.2.2 (lw_V q598 q600 qs10 q129 q601) rfl rfl rfl hd_X6_wrong (rm_ok (by omega) (by decide))) (hv_preV hK hI hrv rfl) rfl rfl hl.1 rfl (lv_room (by first | rfl | decide | (simp [va_rf_cat, int_cat, long_cat]; done) | (simp [va_rf_cat, int_cat, long_cat]; decide))) dX6_number_31 (hv_fit (by first | exact hB | omega))) (fun _ _ _ _ _ h => h.elim) (fun r7 y6 H locs hw hI => ?_)
    have hu := hB
    obtain ⟨a10, ea10, hw⟩ := hw
    revert hl hw; subst ea10; intro hl hw
    obtain ⟨fs11, hfs, hw⟩ := hw
    refine hv_athrow (q := a10) E dX6_number_34 ?_
    exact hv_outH E hlocks (by rw [hE]; intro x hx; simp only [List.map_cons, List.map_nil, List.mem_cons, List.not_mem_nil, or_false] at hx; first | (rcases hx with rfl | rfl <;> rfl) | (subst hx; rfl)) hI (hI.xcell hK (by decide) hfs) hu hw
  refine hv_aload_n (r := some a0) E.1 E.2.1 dX6_number_0 rfl (lv_at hl 0 rfl) ?_
  obtain ⟨f12, ⟨fs, hfs, hfk⟩, hw⟩ := hw
  refine hv_get (v := va_rf f12) E hK hI ciX6 4 (Nat.le_of_ble_eq_true rfl) q281 (fun _ h => h) (Or.inl hfs) hfk dX6_number_1 ?_
  rcases hw with ⟨hof, hw⟩ | ⟨a15, ci16, fs17, hea, hrv, hci, hnc, hu, hw⟩
  · refine hv_castC (cn := 21) E hK hI (by decide) q991 hof dX6_number_4 ?_
    rcases hw with ⟨hea, hu, hw⟩ | ⟨a18, hea, hw⟩
    · rw [hea]
      refine hv_npeI htr E hK hI hlocks hl.1 q992 q993 q995 q994 hs_J13_intValue hu (by first | rfl | decide | (simp [va_rf_cat, int_cat, long_cat]; done) | (simp [va_rf_cat, int_cat, long_cat]; decide)) dX6_number_7 (fun q19 y20 H e1 e2 hI hc => ?_)
      replace hw := hw q19 y20 e1 e2
      refine hv_catch1 (ec := 25) (e0 := 24) E hK hE (by decide) q843 (by decide) (by decide) (by decide) q867 q889 hc ?_
      exact jh2 _ _ _ hw _ _ _ hI (lv_sub hl [0] rfl)
    · revert hl hw; subst hea; intro hl hw
      obtain ⟨⟨fs23, hrv⟩, hw⟩ := hw
      have hq := hw
      clear hw
      refine hv_calli (u := 0) (B1 := 0) hI (vx_runV (As := []) (rest := []) E (met_J13_intValue l G (d + 229) hq) (cwV 0 E.2.2.2.2 (lw_V q992 q993 q994 q141 q995) rfl rfl rfl hd_J13_intValue (rm_ok (by omega) (by decide))) (hv_preV hK hI hrv rfl) rfl rfl hl.1 rfl (lv_room (by first | rfl | decide | (simp [va_rf_cat, int_cat, long_cat]; done) | (simp [va_rf_cat, int_cat, long_cat]; decide))) dX6_number_7 (hv_fit (by first | exact hu | omega))) (fun _ _ _ _ _ h => h.elim) (fun x22 y21 H locs hw hI => ?_)
      refine lv_istore_n (lv' := [(3, .int (x22)), (0, va_rf (some a0)), (1, .int (i1)), (2, .int (i2))]) E.1 E.2.1 dX6_number_10 rfl hl (Nat.le_of_ble_eq_true rfl) (by first | rfl | decide | (simp [va_rf_cat, int_cat, long_cat]; done) | (simp [va_rf_cat, int_cat, long_cat]; decide)) (fun ls hl => ?_)
      refine hv_aload_n (r := some a0) E.1 E.2.1 dX6_number_11 rfl (lv_at hl 1 rfl) ?_
      refine lv_iload_n E.1 E.2.1 dX6_number_12 rfl (lv_at hl 0 rfl) ?_
      refine lv_iload_n E.1 E.2.1 dX6_number_13 rfl (lv_at hl 2 rfl) ?_
      refine lv_iload_n E.1 E.2.1 dX6_number_14 rfl (lv_at hl 3 rfl) ?_
      have hq := hw
      clear hw
      refine hv_callz (u := 0) (B1 := 0) hI (vx_runSN (As := [.int (x22), .int (i1), .int (i2)]) (rest := [va_rf (some a0)]) E (met_X1_within l G (d + 229) hq) ⟨va_cnB 3 E.2.2.2.2 (lw_meth q182) rfl rfl rfl (hK.2.2.2.2.1 _ q326 rfl) (E.2.2.2.2 _ q121) hs_X1_within (rm_ok (by omega) (by decide)), E.2.2.2.2 _ q181, trivial⟩ (hv_preS hK hI) rfl rfl hl.1 rfl (lv_room (by first | rfl | decide | (simp [va_rf_cat, int_cat, long_cat]; done) | (simp [va_rf_cat, int_cat, long_cat]; decide))) dX6_number_15 (hv_fit (by first | exact hu | omega))) (fun _ _ _ _ _ h => h.elim) (fun b25 y24 H locs hw hI => ?_)
      refine lv_iconst (v := nI 2) E.1 E.2.1 dX6_number_18 rfl ?_
      obtain ⟨⟨fs27, hrv⟩, hw⟩ := hw
      obtain ⟨k28, hB, hw⟩ := hw
      have hq := hw
      clear hw
      refine hv_callv (u := 0) (B1 := k28) hI (vx_runV (As := [.int (bi b25), .int (nI 2)]) (rest := []) E (met_X6_must l htr G (d + 224) hq) (cwV 2 E.2.2.2.2 (lw_V q594 q596 qs9 q129 q597) rfl rfl rfl hd_X6_must (rm_ok (by omega) (by decide))) (hv_preV hK hI hrv rfl) rfl rfl hl.1 rfl (lv_room (by first | rfl | decide | (simp [va_rf_cat, int_cat, long_cat]; done) | (simp [va_rf_cat, int_cat, long_cat]; decide))) dX6_number_19 (hv_fit (by first | exact hB | omega))) (fun ec q33 y34 H locs hw hI hc => ?_) (fun y26 H locs hw hI => ?_)
      · obtain ⟨rfl, hw⟩ := hw
        have hu := hB
        exact hv_outP2 (e0 := 24) (e1 := 25) (ec := 6) E hK hE (by decide) (by decide) q843 q867 (by decide) (by decide) hlocks hI hc hu hw
      · skip
        have hu := hB
        refine hv_aload_n (r := some a0) E.1 E.2.1 dX6_number_22 rfl (lv_at hl 1 rfl) ?_
        obtain ⟨⟨fs30, hrv⟩, hw⟩ := hw
        obtain ⟨k31, hB, hw⟩ := hw
        have hq := hw
        clear hw
        refine hv_callv (u := ((0 + k28))) (B1 := k31) hI (vx_runV (As := []) (rest := []) E (met_X6_next l htr G (d + 222) hq) (cwV 0 E.2.2.2.2 (lw_V q314 q316 qs1 q129 q317) rfl rfl rfl hd_X6_next (rm_ok (by omega) (by decide))) (hv_preV hK hI hrv rfl) rfl rfl hl.1 rfl (lv_room (by first | rfl | decide | (simp [va_rf_cat, int_cat, long_cat]; done) | (simp [va_rf_cat, int_cat, long_cat]; decide))) dX6_number_23 (hv_fit (by first | exact hB | omega))) (fun _ _ _ _ _ h => h.elim) (fun y29 H locs hw hI => ?_)
        have hu := hB
        refine lv_iload_n E.1 E.2.1 dX6_number_26 rfl (lv_at hl 0 rfl) ?_
        exact hv_ireti E hr hlocks hI hu hw dX6_number_27
  · rw [hea]
    refine hv_castX (cn := 21) htr E hK hI hlocks hl.1 q991 hrv hci (by decide) hnc hu (by first | rfl | decide | (simp [va_rf_cat, int_cat, long_cat]; done) | (simp [va_rf_cat, int_cat, long_cat]; decide)) dX6_number_4 (fun q13 y14 H e1 e2 hI hc => ?_)
    replace hw := hw q13 y14 e1 e2
    refine hv_catch0 (ec := 24) E hK hE (by decide) (by decide) q843 q863 hc ?_
    exact jh2 _ _ _ hw _ _ _ hI (lv_sub hl [0] rfl)
/-- CaseGrouper$Reader.partner()V -/
def wp_X6_partner (G : GP) (B : Nat) (post : HS → Prop) (xp : Nat → Nat → HS → Prop) (y0 : HS) (a0 : Nat) : Prop := ∃ J1 : HS → Nat → Bool → (Option Nat) → Prop, (∀ (y3 : HS) (u6 : Nat) (b4 : Bool) (r5 : Option Nat), J1 y3 u6 b4 r5 → u6 ≤ B ∧ ∃ J7 : HS → Nat → (Option Nat) → Prop, (∀ (y9 : HS) (u11 : Nat) (r10 : Option Nat), J7 y9 u11 r10 → u11 ≤ B ∧ ∃ f12, fR y9 a0 4 1 f12 ∧ ∃ a13, f12 = some a13 ∧ ∃ f14, fR y9 a13 1 2 f14 ∧ ∃ a15, f14 = some a15 ∧ (∃ fs18, rd G y9 a15 (ob 18 fs18)) ∧ ∃ k19, u11 + k19 ≤ B ∧ wp_J2_add G k19 (fun b17 y16 => post y16) y9 a15 r10) ∧ (∃ a20, r5 = some a20 ∧ (∃ fs22, rd G y3 a20 (ob 4 fs22)) ∧ ∃ k23, u6 + k23 ≤ B ∧ wp_X6_must G k23 (fun y21 => (∃ fs25, rd G y21 a0 (ob 4 fs25)) ∧ ∃ k26, (u6 + k23) + k26 ≤ B ∧ wp_X6_next G k26 (fun y24 => (∃ fs29, rd G y24 a0 (ob 4 fs29)) ∧ ∃ k30, ((u6 + k23) + k26) + k30 ≤ B ∧ wp_X6_span G k30 (fun r28 y27 => (((u6 + k23) + k26) + k30) + 1 ≤ B ∧ ∀ a32, a32 = y27.2 → ∀ y31, y31 = hnew y27 (ob 10 [va_rf none, .int 0, va_rf none]) → (∃ fs35, rd G y31 a0 (ob 4 fs35)) ∧ ∃ k36, ((((u6 + k23) + k26) + k30) + 1) + k36 ≤ B ∧ wp_X6_number G k36 (fun x34 y33 => ∃ k38, (((((u6 + k23) + k26) + k30) + 1) + k36) + k38 ≤ B ∧ wp_X12_init G k38 (fun y37 => (∃ fs41, rd G y37 a0 (ob 4 fs41)) ∧ wp_X6_isWord G (fun b40 y39 => (b40 = false → J7 y39 (((((((u6 + k23) + k26) + k30) + 1) + k36) + k38)) (some a32)) ∧ (b40 = true → (∃ fs44, rd G y39 a0 (ob 4 fs44)) ∧ ∃ k45, ((((((u6 + k23) + k26) + k30) + 1) + k36) + k38) + k45 ≤ B ∧ wp_X6_next G k45 (fun y43 => ∃ f46, fR y43 a32 10 2 f46 ∧ (∃ fs48, rd G y43 a0 (ob 4 fs48)) ∧ ∃ k49, (((((((u6 + k23) + k26) + k30) + 1) + k36) + k38) + k45) + k49 ≤ B ∧ wp_X6_spans G k49 (fun y47 => J7 y47 (((((((((u6 + k23) + k26) + k30) + 1) + k36) + k38) + k45) + k49)) (some a32)) xp y43 a0 f46) y39 a0)) y37 a0 (some (gK G 2))) y33 a32 r28 x34) xp y31 a0 (nI 1) (nI 3)) xp y24 a0 true) y21 a0) xp y3 a20 b4 (nI 4))) ∧ (∃ f51, fR y0 a0 4 1 f51 ∧ ∃ a52, f51 = some a52 ∧ ∃ f53, fR y0 a52 1 2 f53 ∧ ∃ a54, f53 = some a54 ∧ (∃ fs57, rd G y0 a54 (ob 18 fs57)) ∧ wp_J2_size G (fun x56 y55 => ((nI 10) ≤ x56 → J1 y55 0 false (some a0)) ∧ (¬ (nI 10) ≤ x56 → J1 y55 0 true (some a0))) y0 a54)
theorem hs_X6_partner : yX6_partner.cls ≠ "java/lang/invoke/MethodHandle" ∧ yX6_partner.cls ≠ "java/lang/invoke/VarHandle" ∧ (parseMethodDescriptor yX6_partner.desc).map (fun d => d.parameters.length) = some 0 := by decide +kernel
theorem hd_X6_partner : yX6_partner.cls = RX6 ∧ yX6_partner.cls ≠ "java/lang/invoke/MethodHandle" ∧ yX6_partner.cls ≠ "java/lang/invoke/VarHandle" ∧ (parseMethodDescriptor yX6_partner.desc).map (fun d => d.parameters.length) = some 0 := by decide +kernel
set_option maxHeartbeats 4000000 in
theorem met_X6_partner (l : Launch) (htr : l.stackTraces = false) (G : GP) (d : Nat) {B : Nat} {post : HS → Prop} {xp : Nat → Nat → HS → Prop} {y0 : HS} {a0 : Nat} (hw : wp_X6_partner G B post xp y0 a0) : vx_Met l yX6_partner (ws_ yX6_partner cX6_partner 3 none) (rmB (d + 233) B) (hPc G y0 [va_rf (some a0)]) (hQv G y0 post) (hX G y0 xp) B (20 * B) (HA y0) := by
  unfold wp_X6_partner at hw
  refine hv_met (own := RX6) (by decide) rfl (Nat.le_of_ble_eq_true rfl) ?_
  intro p e s m args below meth c ls E hr hlocks hnm hE hK hI hl
  replace hl : lv_has ls 3 [(0, va_rf (some a0))] := hl
  have hu : 0 ≤ B := Nat.zero_le _
  obtain ⟨J1, hj59, hw⟩ := hw
  have jh2 : ∀ (y3 : HS) (u6 : Nat) (b4 : Bool) (r5 : Option Nat), J1 y3 u6 b4 r5 → ∀ (H : Heap) (locs : List Loc) (ls : Array Slot), HI G y0 y3 s H locs → lv_has ls 3 [(0, va_rf (some a0))] → W p l e (rmB (d + 233) B) s m args below meth c H locs u6 (20 * u6) (vx_MQ below (hQv G y0 post) (hX G y0 xp) args s B (20 * B) (HA y0)) (F0 m 21 ls [.int (bi b4), va_rf r5]) := by
    intro y3 u6 b4 r5 hw H locs ls hI hl
    replace hw := hj59 y3 u6 b4 r5 hw
    obtain ⟨hu, hw⟩ := hw
    obtain ⟨J7, hj50, hw⟩ := hw
    have jh8 : ∀ (y9 : HS) (u11 : Nat) (r10 : Option Nat), J7 y9 u11 r10 → ∀ (H : Heap) (locs : List Loc) (ls : Array Slot), HI G y0 y9 s H locs → lv_has ls 3 [(0, va_rf (some a0)), (2, va_rf r10)] → W p l e (rmB (d + 233) B) s m args below meth c H locs u11 (20 * u11) (vx_MQ below (hQv G y0 post) (hX G y0 xp) args s B (20 * B) (HA y0)) (F0 m 71 ls []) := by
      intro y9 u11 r10 hw H locs ls hI hl
      replace hw := hj50 y9 u11 r10 hw
      obtain ⟨hu, hw⟩ := hw
      refine hv_aload_n (r := some a0) E.1 E.2.1 dX6_partner_71 rfl (lv_at hl 0 rfl) ?_
      obtain ⟨f12, ⟨fs, hfs, hfk⟩, hw⟩ := hw
      refine hv_get (v := va_rf f12) E hK hI ciX6 1 (Nat.le_of_ble_eq_true rfl) q278 (fun _ h => h) (Or.inl hfs) hfk dX6_partner_72 ?_
      obtain ⟨a13, ea13, hw⟩ := hw
      revert hl hw; subst ea13; intro hl hw
      obtain ⟨f14, ⟨fs, hfs, hfk⟩, hw⟩ := hw
      refine hv_getN (v := va_rf f14) E hK hI ciX2 2 (Nat.le_of_ble_eq_true rfl) q240 (fun _ h => h) (Or.inl hfs) hfk dX6_partner_75 ?_
      refine hv_aload_n (r := r10) E.1 E.2.1 dX6_partner_78 rfl (lv_at hl 1 rfl) ?_
      obtain ⟨a15, ea15, hw⟩ := hw
      revert hl hw; subst ea15; intro hl hw
      obtain ⟨⟨fs18, hrv⟩, hw⟩ := hw
      obtain ⟨k19, hB, hw⟩ := hw
      have hq := hw
      clear hw
      refine hv_callz (u := u11) (B1 := k19) hI (vx_runV (As := [va_rf r10]) (rest := []) E (met_J2_add l G (d + 226) hq) (cwV 1 E.2.2.2.2 (lw_V q909 q910 q911 q124 q912) rfl rfl rfl hd_J2_add (rm_ok (by omega) (by decide))) (hv_preV hK hI hrv rfl) rfl rfl hl.1 rfl (lv_room (by first | rfl | decide | (simp [va_rf_cat, int_cat, long_cat]; done) | (simp [va_rf_cat, int_cat, long_cat]; decide))) dX6_partner_79 (hv_fit (by first | exact hB | omega))) (fun _ _ _ _ _ h => h.elim) (fun b17 y16 H locs hw hI => ?_)
      have hu := hB
      refine lv_pop E.1 E.2.1 dX6_partner_82 rfl ?_
      exact hv_vret E hr hlocks hI hu hw dX6_partner_83
    refine lv_iconst (v := nI 4) E.1 E.2.1 dX6_partner_21 rfl ?_
    obtain ⟨a20, ea20, hw⟩ := hw
    revert hl hw; subst ea20; intro hl hw
    obtain ⟨⟨fs22, hrv⟩, hw⟩ := hw
    obtain ⟨k23, hB, hw⟩ := hw
    have hq := hw
    clear hw
    refine hv_callv (u := u6) (B1 := k23) hI (vx_runV (As := [.int (bi b4), .int (nI 4)]) (rest := []) E (met_X6_must l htr G (d + 227) hq) (cwV 2 E.2.2.2.2 (lw_V q594 q596 qs9 q129 q597) rfl rfl rfl hd_X6_must (rm_ok (by omega) (by decide))) (hv_preV hK hI hrv rfl) rfl rfl hl.1 rfl (lv_room (by first | rfl | decide | (simp [va_rf_cat, int_cat, long_cat]; done) | (simp [va_rf_cat, int_cat, long_cat]; decide))) dX6_partner_22 (hv_fit (by first | exact hB | omega))) (fun ec q y1 H locs hx hI hc => hv_out hE hlocks hI hc (by first | exact hB | omega) hx) (fun y21 H locs hw hI => ?_)
    have hu := hB
    refine hv_aload_n (r := some a0) E.1 E.2.1 dX6_partner_25 rfl (lv_at hl 0 rfl) ?_
    obtain ⟨⟨fs25, hrv⟩, hw⟩ := hw
    obtain ⟨k26, hB, hw⟩ := hw
    have hq := hw
    clear hw
    refine hv_callv (u := ((u6 + k23))) (B1 := k26) hI (vx_runV (As := []) (rest := []) E (met_X6_next l htr G (d + 225) hq) (cwV 0 E.2.2.2.2 (lw_V q314 q316 qs1 q129 q317) rfl rfl rfl hd_X6_next (rm_ok (by omega) (by decide))) (hv_preV hK hI hrv rfl) rfl rfl hl.1 rfl (lv_room (by first | rfl | decide | (simp [va_rf_cat, int_cat, long_cat]; done) | (simp [va_rf_cat, int_cat, long_cat]; decide))) dX6_partner_26 (hv_fit (by first | exact hB | omega))) (fun _ _ _ _ _ h => h.elim) (fun y24 H locs hw hI => ?_)
    have hu := hB
    refine hv_aload_n (r := some a0) E.1 E.2.1 dX6_partner_29 rfl (lv_at hl 0 rfl) ?_
    refine lv_iconst (v := nI 1) E.1 E.2.1 dX6_partner_30 rfl ?_
    obtain ⟨⟨fs29, hrv⟩, hw⟩ := hw
    obtain ⟨k30, hB, hw⟩ := hw
    have hq := hw
    clear hw
    refine hv_callq (u := (((u6 + k23) + k26))) (B1 := k30) hI (vx_runV (As := [.int (nI 1)]) (rest := []) E (met_X6_span l htr G (d + 1) hq) (cwV 1 E.2.2.2.2 (lw_V q835 q837 qs17 q129 q838) rfl rfl rfl hd_X6_span (rm_ok (by omega) (by decide))) (hv_preV hK hI hrv rfl) rfl rfl hl.1 rfl (lv_room (by first | rfl | decide | (simp [va_rf_cat, int_cat, long_cat]; done) | (simp [va_rf_cat, int_cat, long_cat]; decide))) dX6_partner_31 (hv_fit (by first | exact hB | omega))) (fun ec q y1 H locs hx hI hc => hv_out hE hlocks hI hc (by first | exact hB | omega) hx) (fun r28 y27 H locs hw hI => ?_)
    have hu := hB
    refine hv_astore_n (r := r28) (lv' := [(1, va_rf r28), (0, va_rf (some a0))]) E.1 E.2.1 dX6_partner_34 rfl hl (Nat.le_of_ble_eq_true rfl) (by first | rfl | decide | (simp [va_rf_cat, int_cat, long_cat]; done) | (simp [va_rf_cat, int_cat, long_cat]; decide)) (fun ls hl => ?_)
    obtain ⟨hu, hw⟩ := hw
    refine hv_new (fs := [va_rf none, .int 0, va_rf none]) E hK hI ciX12 q1013 q1014 q156 (df10) (Nat.le_of_ble_eq_true rfl) hu dX6_partner_35 (fun H hI => ?_)
    obtain ⟨a32, ea32⟩ : ∃ w, w = y27.2 := ⟨_, rfl⟩
    obtain ⟨y31, ey31⟩ : ∃ w, w = hnew y27 (ob 10 [va_rf none, .int 0, va_rf none]) := ⟨_, rfl⟩
    rw [← ea32]
    rw [← ey31] at hI
    replace hw := hw a32 ea32 y31 ey31
    refine hv_dup E.1 E.2.1 dX6_partner_38 ?_
    refine hv_aload_n (r := r28) E.1 E.2.1 dX6_partner_39 rfl (lv_at hl 0 rfl) ?_
    refine hv_aload_n (r := some a0) E.1 E.2.1 dX6_partner_40 rfl (lv_at hl 1 rfl) ?_
    refine lv_iconst (v := nI 1) E.1 E.2.1 dX6_partner_41 rfl ?_
    refine lv_iconst (v := nI 3) E.1 E.2.1 dX6_partner_42 rfl ?_
    obtain ⟨⟨fs35, hrv⟩, hw⟩ := hw
    obtain ⟨k36, hB, hw⟩ := hw
    have hq := hw
    clear hw
    refine hv_calli (u := (((((u6 + k23) + k26) + k30) + 1))) (B1 := k36) hI (vx_runVX (As := [.int (nI 1), .int (nI 3)]) (rest := [va_rf r28, va_rf (some a32), va_rf (some a32)]) E (met_X6_number l htr G (d + 2) hq) (vx_cwVW 2 E.2.2.2.2 (lw_VW q987 q989 qs25 q129 q990) rfl rfl rfl hd_X6_number (rm_ok (by omega) (by decide))) (hv_preV hK hI hrv rfl) rfl rfl hl.1 rfl (lv_room (by first | rfl | decide | (simp [va_rf_cat, int_cat, long_cat]; done) | (simp [va_rf_cat, int_cat, long_cat]; decide))) dX6_partner_43 (hv_fit (by first | exact hB | omega))) (fun ec q y1 H locs hx hI hc => hv_out hE hlocks hI hc (by first | exact hB | omega) hx) (fun x34 y33 H locs hw hI => ?_)
    have hu := hB
    obtain ⟨k38, hB, hw⟩ := hw
    have hq := hw
    clear hw
    refine hv_callv (u := ((((((u6 + k23) + k26) + k30) + 1) + k36))) (B1 := k38) hI (vx_runI (b := a32) (As := [va_rf r28, .int (x34)]) (rest := [va_rf (some a32)]) E (met_X12_init l G (d + 228) hq) (cwI 2 E.2.2.2.2 (lw_meth q1017) rfl rfl rfl (E.2.2.2.2 _ q156) (E.2.2.2.2 _ q1015) (E.2.2.2.2 _ q1016) rfl hs_X12_init (rm_ok (by omega) (by decide))) (hv_preS hK hI) rfl rfl hl.1 rfl (lv_room (by first | rfl | decide | (simp [va_rf_cat, int_cat, long_cat]; done) | (simp [va_rf_cat, int_cat, long_cat]; decide))) dX6_partner_46 (hv_fit (by first | exact hB | omega))) (fun _ _ _ _ _ h => h.elim) (fun y37 H locs hw hI => ?_)
    have hu := hB
    refine hv_astore_n (r := some a32) (lv' := [(2, va_rf (some a32)), (1, va_rf r28), (0, va_rf (some a0))]) E.1 E.2.1 dX6_partner_49 rfl hl (Nat.le_of_ble_eq_true rfl) (by first | rfl | decide | (simp [va_rf_cat, int_cat, long_cat]; done) | (simp [va_rf_cat, int_cat, long_cat]; decide)) (fun ls hl => ?_)
    refine hv_aload_n (r := some a0) E.1 E.2.1 dX6_partner_50 rfl (lv_at hl 2 rfl) ?_
    refine hv_ldcS E hK 9 2 rfl dX6_partner_51 ?_
    obtain ⟨⟨fs41, hrv⟩, hw⟩ := hw
    have hq := hw
    clear hw
    refine hv_callz (u := (((((((u6 + k23) + k26) + k30) + 1) + k36) + k38))) (B1 := 0) hI (vx_runV (As := [va_rf (some (gK G 2))]) (rest := []) E (met_X6_isWord l htr G (d + 230) hq) (cwV 1 E.2.2.2.2 (lw_V q892 q894 qs19 q129 q895) rfl rfl rfl hd_X6_isWord (rm_ok (by omega) (by decide))) (hv_preV hK hI hrv rfl) rfl rfl hl.1 rfl (lv_room (by first | rfl | decide | (simp [va_rf_cat, int_cat, long_cat]; done) | (simp [va_rf_cat, int_cat, long_cat]; decide))) dX6_partner_53 (hv_fit (by first | exact hu | omega))) (fun _ _ _ _ _ h => h.elim) (fun b40 y39 H locs hw hI => ?_)
    refine lv_if_eq (tgt := 71) E.1 E.2.1 dX6_partner_56 (by decide) (fun c42 => ?_) (fun c42 => ?_)
    · replace hw := hw.1 (bi_z c42)
      exact jh8 _ _ _ hw _ _ _ hI (lv_sub hl [2, 0] rfl)
    · replace hw := hw.2 (bi_n c42)
      refine hv_aload_n (r := some a0) E.1 E.2.1 dX6_partner_59 rfl (lv_at hl 2 rfl) ?_
      obtain ⟨⟨fs44, hrv⟩, hw⟩ := hw
      obtain ⟨k45, hB, hw⟩ := hw
      have hq := hw
      clear hw
      refine hv_callv (u := (((((((u6 + k23) + k26) + k30) + 1) + k36) + k38))) (B1 := k45) hI (vx_runV (As := []) (rest := []) E (met_X6_next l htr G (d + 225) hq) (cwV 0 E.2.2.2.2 (lw_V q314 q316 qs1 q129 q317) rfl rfl rfl hd_X6_next (rm_ok (by omega) (by decide))) (hv_preV hK hI hrv rfl) rfl rfl hl.1 rfl (lv_room (by first | rfl | decide | (simp [va_rf_cat, int_cat, long_cat]; done) | (simp [va_rf_cat, int_cat, long_cat]; decide))) dX6_partner_60 (hv_fit (by first | exact hB | omega))) (fun _ _ _ _ _ h => h.elim) (fun y43 H locs hw hI => ?_)
      have hu := hB
      refine hv_aload_n (r := some a0) E.1 E.2.1 dX6_partner_63 rfl (lv_at hl 2 rfl) ?_
      refine hv_aload_n (r := some a32) E.1 E.2.1 dX6_partner_64 rfl (lv_at hl 0 rfl) ?_
      obtain ⟨f46, ⟨fs, hfs, hfk⟩, hw⟩ := hw
      refine hv_getN (v := va_rf f46) E hK hI ciX12 2 (Nat.le_of_ble_eq_true rfl) q1027 (fun _ h => h) (Or.inl hfs) hfk dX6_partner_65 ?_
      obtain ⟨⟨fs48, hrv⟩, hw⟩ := hw
      obtain ⟨k49, hB, hw⟩ := hw
      have hq := hw
      clear hw
      refine hv_callv (u := ((((((((u6 + k23) + k26) + k30) + 1) + k36) + k38) + k45))) (B1 := k49) hI (vx_runV (As := [va_rf f46]) (rest := []) E (met_X6_spans l htr G (d) hq) (cwV 1 E.2.2.2.2 (lw_V q831 q833 qs16 q129 q834) rfl rfl rfl hd_X6_spans (rm_ok (by omega) (by decide))) (hv_preV hK hI hrv rfl) rfl rfl hl.1 rfl (lv_room (by first | rfl | decide | (simp [va_rf_cat, int_cat, long_cat]; done) | (simp [va_rf_cat, int_cat, long_cat]; decide))) dX6_partner_68 (hv_fit (by first | exact hB | omega))) (fun ec q y1 H locs hx hI hc => hv_out hE hlocks hI hc (by first | exact hB | omega) hx) (fun y47 H locs hw hI => ?_)
      have hu := hB
      exact jh8 _ _ _ hw _ _ _ hI (lv_sub hl [2, 0] rfl)
  refine hv_aload_n (r := some a0) E.1 E.2.1 dX6_partner_0 rfl (lv_at hl 0 rfl) ?_
  refine hv_aload_n (r := some a0) E.1 E.2.1 dX6_partner_1 rfl (lv_at hl 0 rfl) ?_
  obtain ⟨f51, ⟨fs, hfs, hfk⟩, hw⟩ := hw
  refine hv_get (v := va_rf f51) E hK hI ciX6 1 (Nat.le_of_ble_eq_true rfl) q278 (fun _ h => h) (Or.inl hfs) hfk dX6_partner_2 ?_
  obtain ⟨a52, ea52, hw⟩ := hw
  revert hl hw; subst ea52; intro hl hw
  obtain ⟨f53, ⟨fs, hfs, hfk⟩, hw⟩ := hw
  refine hv_getN (v := va_rf f53) E hK hI ciX2 2 (Nat.le_of_ble_eq_true rfl) q240 (fun _ h => h) (Or.inl hfs) hfk dX6_partner_5 ?_
  obtain ⟨a54, ea54, hw⟩ := hw
  revert hl hw; subst ea54; intro hl hw
  obtain ⟨⟨fs57, hrv⟩, hw⟩ := hw
  have hq := hw
  clear hw
  refine hv_calli (u := 0) (B1 := 0) hI (vx_runV (As := []) (rest := [va_rf (some a0)]) E (met_J2_size l G (d + 232) hq) (cwV 0 E.2.2.2.2 (lw_V q751 q752 q753 q124 q754) rfl rfl rfl hd_J2_size (rm_ok (by omega) (by decide))) (hv_preV hK hI hrv rfl) rfl rfl hl.1 rfl (lv_room (by first | rfl | decide | (simp [va_rf_cat, int_cat, long_cat]; done) | (simp [va_rf_cat, int_cat, long_cat]; decide))) dX6_partner_8 (hv_fit (by first | exact hu | omega))) (fun _ _ _ _ _ h => h.elim) (fun x56 y55 H locs hw hI => ?_)
  refine lv_bipush (v := nI 10) E.1 E.2.1 dX6_partner_11 rfl ?_
  refine lv_icmp_ge (tgt := 20) E.1 E.2.1 dX6_partner_13 (by decide) (fun c58 => ?_) (fun c58 => ?_)
  · replace hw := hw.1 (c58)
    refine lv_iconst (v := nI 0) E.1 E.2.1 dX6_partner_20 rfl ?_
    exact jh2 _ _ _ _ hw _ _ _ hI (lv_sub hl [0] rfl)
  · replace hw := hw.2 (c58)
    refine lv_iconst (v := nI 1) E.1 E.2.1 dX6_partner_16 rfl ?_
    refine lv_goto (tgt := 21) E.1 E.2.1 dX6_partner_17 (by decide) ?_
    exact jh2 _ _ _ _ hw _ _ _ hI (lv_sub hl [0] rfl)
/-- CaseGrouper$Reader.rank()V -/
def wp_X6_rank (G : GP) (B : Nat) (post : HS → Prop) (xp : Nat → Nat → HS → Prop) (y0 : HS) (a0 : Nat) : Prop := ∃ J1 : HS → Nat → Bool → (Option Nat) → Prop, (∀ (y3 : HS) (u6 : Nat) (b4 : Bool) (r5 : Option Nat), J1 y3 u6 b4 r5 → u6 ≤ B ∧ ∃ a7, r5 = some a7 ∧ (∃ fs9, rd G y3 a7 (ob 4 fs9)) ∧ ∃ k10, u6 + k10 ≤ B ∧ wp_X6_must G k10 (fun y8 => (∃ fs12, rd G y8 a0 (ob 4 fs12)) ∧ ∃ k13, (u6 + k10) + k13 ≤ B ∧ wp_X6_next G k13 (fun y11 => (∃ fs16, rd G y11 a0 (ob 4 fs16)) ∧ ∃ k17, ((u6 + k10) + k13) + k17 ≤ B ∧ wp_X6_span G k17 (fun r15 y14 => ∃ f18, fR y14 a0 4 1 f18 ∧ ∃ a19, f18 = some a19 ∧ ∃ f20, fR y14 a19 1 1 f20 ∧ (((u6 + k10) + k13) + k17) + 1 ≤ B ∧ ∀ a22, a22 = y14.2 → ∀ y21, y21 = hnew y14 (ob 9 [va_rf none, .int 0]) → (∃ fs25, rd G y21 a0 (ob 4 fs25)) ∧ ∃ k26, ((((u6 + k10) + k13) + k17) + 1) + k26 ≤ B ∧ wp_X6_number G k26 (fun x24 y23 => wp_X11_init G (fun y27 => ∃ a28, f20 = some a28 ∧ (∃ fs31, rd G y27 a28 (ob 18 fs31)) ∧ ∃ k32, (((((u6 + k10) + k13) + k17) + 1) + k26) + k32 ≤ B ∧ wp_J2_add G k32 (fun b30 y29 => post y29) y27 a28 (some a22)) y23 a22 r15 x24) xp y21 a0 (nI 1) (nI 9)) xp y11 a0 false) y8 a0) xp y3 a7 b4 (nI 4)) ∧ (∃ f33, fR y0 a0 4 1 f33 ∧ ∃ a34, f33 = some a34 ∧ ∃ f35, fR y0 a34 1 1 f35 ∧ ∃ a36, f35 = some a36 ∧ (∃ fs39, rd G y0 a36 (ob 18 fs39)) ∧ wp_J2_size G (fun x38 y37 => ((nI 10) ≤ x38 → J1 y37 0 false (some a0)) ∧ (¬ (nI 10) ≤ x38 → J1 y37 0 true (some a0))) y0 a36)
theorem hs_X6_rank : yX6_rank.cls ≠ "java/lang/invoke/MethodHandle" ∧ yX6_rank.cls ≠ "java/lang/invoke/VarHandle" ∧ (parseMethodDescriptor yX6_rank.desc).map (fun d => d.parameters.length) = some 0 := by decide +kernel
theorem hd_X6_rank : yX6_rank.cls = RX6 ∧ yX6_rank.cls ≠ "java/lang/invoke/MethodHandle" ∧ yX6_rank.cls ≠ "java/lang/invoke/VarHandle" ∧ (parseMethodDescriptor yX6_rank.desc).map (fun d => d.parameters.length) = some 0 := by decide +kernel
set_option maxHeartbeats 4000000 in
theorem met_X6_rank (l : Launch) (htr : l.stackTraces = false) (G : GP) (d : Nat) {B : Nat} {post : HS → Prop} {xp : Nat → Nat → HS → Prop} {y0 : HS} {a0 : Nat} (hw : wp_X6_rank G B post xp y0 a0) : vx_Met l yX6_rank (ws_ yX6_rank cX6_rank 2 none) (rmB (d + 232) B) (hPc G y0 [va_rf (some a0)]) (hQv G y0 post) (hX G y0 xp) B (20 * B) (HA y0) := by
  unfold wp_X6_rank at hw
  refine hv_met (own := RX6) (by decide) rfl (Nat.le_of_ble_eq_true rfl) ?_
  intro p e s m args below meth c ls E hr hlocks hnm hE hK hI hl
  replace hl : lv_has ls 2 [(0, va_rf (some a0))] := hl
  have hu : 0 ≤ B := Nat.zero_le _
  obtain ⟨J1, hj41, hw⟩ := hw
  have jh2 : ∀ (y3 : HS) (u6 : Nat) (b4 : Bool) (r5 : Option Nat), J1 y3 u6 b4 r5 → ∀ (H : Heap) (locs : List Loc) (ls : Array Slot), HI G y0 y3 s H locs → lv_has ls 2 [(0, va_rf (some a0))] → W p l e (rmB (d + 232) B) s m args below meth c H locs u6 (20 * u6) (vx_MQ below (hQv G y0 post) (hX G y0 xp) args s B (20 * B) (HA y0)) (F0 m 21 ls [.int (bi b4), va_rf r5]) := by
    intro y3 u6 b4 r5 hw H locs ls hI hl
    replace hw := hj41 y3 u6 b4 r5 hw
    obtain ⟨hu, hw⟩ := hw
    refine lv_iconst (v := nI 4) E.1 E.2.1 dX6_rank_21 rfl ?_
    obtain ⟨a7, ea7, hw⟩ := hw
    revert hl hw; subst ea7; intro hl hw
    obtain ⟨⟨fs9, hrv⟩, hw⟩ := hw
    obtain ⟨k10, hB, hw⟩ := hw
    have hq := hw
    clear hw
    refine hv_callv (u := u6) (B1 := k10) hI (vx_runV (As := [.int (bi b4), .int (nI 4)]) (rest := []) E (met_X6_must l htr G (d + 226) hq) (cwV 2 E.2.2.2.2 (lw_V q594 q596 qs9 q129 q597) rfl rfl rfl hd_X6_must (rm_ok (by omega) (by decide))) (hv_preV hK hI hrv rfl) rfl rfl hl.1 rfl (lv_room (by first | rfl | decide | (simp [va_rf_cat, int_cat, long_cat]; done) | (simp [va_rf_cat, int_cat, long_cat]; decide))) dX6_rank_22 (hv_fit (by first | exact hB | omega))) (fun ec q y1 H locs hx hI hc => hv_out hE hlocks hI hc (by first | exact hB | omega) hx) (fun y8 H locs hw hI => ?_)
    have hu := hB
    refine hv_aload_n (r := some a0) E.1 E.2.1 dX6_rank_25 rfl (lv_at hl 0 rfl) ?_
    obtain ⟨⟨fs12, hrv⟩, hw⟩ := hw
    obtain ⟨k13, hB, hw⟩ := hw
    have hq := hw
    clear hw
    refine hv_callv (u := ((u6 + k10))) (B1 := k13) hI (vx_runV (As := []) (rest := []) E (met_X6_next l htr G (d + 224) hq) (cwV 0 E.2.2.2.2 (lw_V q314 q316 qs1 q129 q317) rfl rfl rfl hd_X6_next (rm_ok (by omega) (by decide))) (hv_preV hK hI hrv rfl) rfl rfl hl.1 rfl (lv_room (by first | rfl | decide | (simp [va_rf_cat, int_cat, long_cat]; done) | (simp [va_rf_cat, int_cat, long_cat]; decide))) dX6_rank_26 (hv_fit (by first | exact hB | omega))) (fun _ _ _ _ _ h => h.elim) (fun y11 H locs hw hI => ?_)
    have hu := hB
    refine hv_aload_n (r := some a0) E.1 E.2.1 dX6_rank_29 rfl (lv_at hl 0 rfl) ?_
    refine lv_iconst (v := nI 0) E.1 E.2.1 dX6_rank_30 rfl ?_
    obtain ⟨⟨fs16, hrv⟩, hw⟩ := hw
    obtain ⟨k17, hB, hw⟩ := hw
    have hq := hw
    clear hw
    refine hv_callq (u := (((u6 + k10) + k13))) (B1 := k17) hI (vx_runV (As := [.int (nI 0)]) (rest := []) E (met_X6_span l htr G (d) hq) (cwV 1 E.2.2.2.2 (lw_V q835 q837 qs17 q129 q838) rfl rfl rfl hd_X6_span (rm_ok (by omega) (by decide))) (hv_preV hK hI hrv rfl) rfl rfl hl.1 rfl (lv_room (by first | rfl | decide | (simp [va_rf_cat, int_cat, long_cat]; done) | (simp [va_rf_cat, int_cat, long_cat]; decide))) dX6_rank_31 (hv_fit (by first | exact hB | omega))) (fun ec q y1 H locs hx hI hc => hv_out hE hlocks hI hc (by first | exact hB | omega) hx) (fun r15 y14 H locs hw hI => ?_)
    have hu := hB
    refine hv_astore_n (r := r15) (lv' := [(1, va_rf r15), (0, va_rf (some a0))]) E.1 E.2.1 dX6_rank_34 rfl hl (Nat.le_of_ble_eq_true rfl) (by first | rfl | decide | (simp [va_rf_cat, int_cat, long_cat]; done) | (simp [va_rf_cat, int_cat, long_cat]; decide)) (fun ls hl => ?_)
    refine hv_aload_n (r := some a0) E.1 E.2.1 dX6_rank_35 rfl (lv_at hl 1 rfl) ?_
    obtain ⟨f18, ⟨fs, hfs, hfk⟩, hw⟩ := hw
    refine hv_get (v := va_rf f18) E hK hI ciX6 1 (Nat.le_of_ble_eq_true rfl) q278 (fun _ h => h) (Or.inl hfs) hfk dX6_rank_36 ?_
    obtain ⟨a19, ea19, hw⟩ := hw
    revert hl hw; subst ea19; intro hl hw
    obtain ⟨f20, ⟨fs, hfs, hfk⟩, hw⟩ := hw
    refine hv_getN (v := va_rf f20) E hK hI ciX2 1 (Nat.le_of_ble_eq_true rfl) q236 (fun _ h => h) (Or.inl hfs) hfk dX6_rank_39 ?_
    obtain ⟨hu, hw⟩ := hw
    refine hv_new (fs := [va_rf none, .int 0]) E hK hI ciX11 q985 q986 q155 (df9) (Nat.le_of_ble_eq_true rfl) hu dX6_rank_42 (fun H hI => ?_)
    obtain ⟨a22, ea22⟩ : ∃ w, w = y14.2 := ⟨_, rfl⟩
    obtain ⟨y21, ey21⟩ : ∃ w, w = hnew y14 (ob 9 [va_rf none, .int 0]) := ⟨_, rfl⟩
    rw [← ea22]
    rw [← ey21] at hI
    replace hw := hw a22 ea22 y21 ey21
    refine hv_dup E.1 E.2.1 dX6_rank_45 ?_
    refine hv_aload_n (r := r15) E.1 E.2.1 dX6_rank_46 rfl (lv_at hl 0 rfl) ?_
    refine hv_aload_n (r := some a0) E.1 E.2.1 dX6_rank_47 rfl (lv_at hl 1 rfl) ?_
    refine lv_iconst (v := nI 1) E.1 E.2.1 dX6_rank_48 rfl ?_
    refine lv_bipush (v := nI 9) E.1 E.2.1 dX6_rank_49 rfl ?_
    obtain ⟨⟨fs25, hrv⟩, hw⟩ := hw
    obtain ⟨k26, hB, hw⟩ := hw
    have hq := hw
    clear hw
    refine hv_calli (u := (((((u6 + k10) + k13) + k17) + 1))) (B1 := k26) hI (vx_runVX (As := [.int (nI 1), .int (nI 9)]) (rest := [va_rf r15, va_rf (some a22), va_rf (some a22), va_rf f20]) E (met_X6_number l htr G (d + 1) hq) (vx_cwVW 2 E.2.2.2.2 (lw_VW q987 q989 qs25 q129 q990) rfl rfl rfl hd_X6_number (rm_ok (by omega) (by decide))) (hv_preV hK hI hrv rfl) rfl rfl hl.1 rfl (lv_room (by first | rfl | decide | (simp [va_rf_cat, int_cat, long_cat]; done) | (simp [va_rf_cat, int_cat, long_cat]; decide))) dX6_rank_51 (hv_fit (by first | exact hB | omega))) (fun ec q y1 H locs hx hI hc => hv_out hE hlocks hI hc (by first | exact hB | omega) hx) (fun x24 y23 H locs hw hI => ?_)
    have hu := hB
    have hq := hw
    clear hw
    refine hv_callv (u := ((((((u6 + k10) + k13) + k17) + 1) + k26))) (B1 := 0) hI (vx_runI (b := a22) (As := [va_rf r15, .int (x24)]) (rest := [va_rf (some a22), va_rf f20]) E (met_X11_init l G (d + 230) hq) (cwI 2 E.2.2.2.2 (lw_meth q998) rfl rfl rfl (E.2.2.2.2 _ q155) (E.2.2.2.2 _ q996) (E.2.2.2.2 _ q997) rfl hs_X11_init (rm_ok (by omega) (by decide))) (hv_preS hK hI) rfl rfl hl.1 rfl (lv_room (by first | rfl | decide | (simp [va_rf_cat, int_cat, long_cat]; done) | (simp [va_rf_cat, int_cat, long_cat]; decide))) dX6_rank_54 (hv_fit (by first | exact hu | omega))) (fun _ _ _ _ _ h => h.elim) (fun y27 H locs hw hI => ?_)
    obtain ⟨a28, ea28, hw⟩ := hw
    revert hl hw; subst ea28; intro hl hw
    obtain ⟨⟨fs31, hrv⟩, hw⟩ := hw
    obtain ⟨k32, hB, hw⟩ := hw
    have hq := hw
    clear hw
    refine hv_callz (u := ((((((u6 + k10) + k13) + k17) + 1) + k26))) (B1 := k32) hI (vx_runV (As := [va_rf (some a22)]) (rest := []) E (met_J2_add l G (d + 225) hq) (cwV 1 E.2.2.2.2 (lw_V q909 q910 q911 q124 q912) rfl rfl rfl hd_J2_add (rm_ok (by omega) (by decide))) (hv_preV hK hI hrv rfl) rfl rfl hl.1 rfl (lv_room (by first | rfl | decide | (simp [va_rf_cat, int_cat, long_cat]; done) | (simp [va_rf_cat, int_cat, long_cat]; decide))) dX6_rank_57 (hv_fit (by first | exact hB | omega))) (fun _ _ _ _ _ h => h.elim) (fun b30 y29 H locs hw hI => ?_)
    have hu := hB
    refine lv_pop E.1 E.2.1 dX6_rank_60 rfl ?_
    exact hv_vret E hr hlocks hI hu hw dX6_rank_61
  refine hv_aload_n (r := some a0) E.1 E.2.1 dX6_rank_0 rfl (lv_at hl 0 rfl) ?_
  refine hv_aload_n (r := some a0) E.1 E.2.1 dX6_rank_1 rfl (lv_at hl 0 rfl) ?_
  obtain ⟨f33, ⟨fs, hfs, hfk⟩, hw⟩ := hw
  refine hv_get (v := va_rf f33) E hK hI ciX6 1 (Nat.le_of_ble_eq_true rfl) q278 (fun _ h => h) (Or.inl hfs) hfk dX6_rank_2 ?_
  obtain ⟨a34, ea34, hw⟩ := hw
  revert hl hw; subst ea34; intro hl hw
  obtain ⟨f35, ⟨fs, hfs, hfk⟩, hw⟩ := hw
  refine hv_getN (v := va_rf f35) E hK hI ciX2 1 (Nat.le_of_ble_eq_true rfl) q236 (fun _ h => h) (Or.inl hfs) hfk dX6_rank_5 ?_
  obtain ⟨a36, ea36, hw⟩ := hw
  revert hl hw; subst ea36; intro hl hw
  obtain ⟨⟨fs39, hrv⟩, hw⟩ := hw
  have hq := hw
  clear hw
  refine hv_calli (u := 0) (B1 := 0) hI (vx_runV (As := []) (rest := [va_rf (some a0)]) E (met_J2_size l G (d + 231) hq) (cwV 0 E.2.2.2.2 (lw_V q751 q752 q753 q124 q754) rfl rfl rfl hd_J2_size (rm_ok (by omega) (by decide))) (hv_preV hK hI hrv rfl) rfl rfl hl.1 rfl (lv_room (by first | rfl | decide | (simp [va_rf_cat, int_cat, long_cat]; done) | (simp [va_rf_cat, int_cat, long_cat]; decide))) dX6_rank_8 (hv_fit (by first | exact hu | omega))) (fun _ _ _ _ _ h => h.elim) (fun x38 y37 H locs hw hI => ?_)
  refine lv_bipush (v := nI 10) E.1 E.2.1 dX6_rank_11 rfl ?_
  refine lv_icmp_ge (tgt := 20) E.1 E.2.1 dX6_rank_13 (by decide) (fun c40 => ?_) (fun c40 => ?_)
  · replace hw := hw.1 (c40)
    refine lv_iconst (v := nI 0) E.1 E.2.1 dX6_rank_20 rfl ?_
    exact jh2 _ _ _ _ hw _ _ _ hI (lv_sub hl [0] rfl)
  · replace hw := hw.2 (c40)
    refine lv_iconst (v := nI 1) E.1 E.2.1 dX6_rank_16 rfl ?_
    refine lv_goto (tgt := 21) E.1 E.2.1 dX6_rank_17 (by decide) ?_
    exact jh2 _ _ _ _ hw _ _ _ hI (lv_sub hl [0] rfl)
/-- CaseGrouper$Reader.sign(I)V -/
def wp_X6_sign (G : GP) (B : Nat) (post : HS → Prop) (xp : Nat → Nat → HS → Prop) (y0 : HS) (a0 : Nat) (i1 : Int32) : Prop := (∃ fs3, rd G y0 a0 (ob 4 fs3)) ∧ wp_X6_isSign G (fun b2 y1 => (∃ fs5, rd G y1 a0 (ob 4 fs5)) ∧ ∃ k6, 0 + k6 ≤ B ∧ wp_X6_must G k6 (fun y4 => (∃ fs8, rd G y4 a0 (ob 4 fs8)) ∧ ∃ k9, (0 + k6) + k9 ≤ B ∧ wp_X6_next G k9 (fun y7 => post y7) y4 a0) xp y1 a0 b2 (nI 1)) y0 a0 i1
theorem hs_X6_sign : yX6_sign.cls ≠ "java/lang/invoke/MethodHandle" ∧ yX6_sign.cls ≠ "java/lang/invoke/VarHandle" ∧ (parseMethodDescriptor yX6_sign.desc).map (fun d => d.parameters.length) = some 1 := by decide +kernel
theorem hd_X6_sign : yX6_sign.cls = RX6 ∧ yX6_sign.cls ≠ "java/lang/invoke/MethodHandle" ∧ yX6_sign.cls ≠ "java/lang/invoke/VarHandle" ∧ (parseMethodDescriptor yX6_sign.desc).map (fun d => d.parameters.length) = some 1 := by decide +kernel
set_option maxHeartbeats 4000000 in
theorem met_X6_sign (l : Launch) (htr : l.stackTraces = false) (G : GP) (d : Nat) {B : Nat} {post : HS → Prop} {xp : Nat → Nat → HS → Prop} {y0 : HS} {a0 : Nat} {i1 : Int32} (hw : wp_X6_sign G B post xp y0 a0 i1) : vx_Met l yX6_sign (ws_ yX6_sign cX6_sign 2 none) (rmB (d + 8) B) (hPc G y0 [va_rf (some a0), .int (i1)]) (hQv G y0 post) (hX G y0 xp) B (20 * B) (HA y0) := by
  unfold wp_X6_sign at hw
  refine hv_met (own := RX6) (by decide) rfl (Nat.le_of_ble_eq_true rfl) ?_
  intro p e s m args below meth c ls E hr hlocks hnm hE hK hI hl
  replace hl : lv_has ls 2 [(0, va_rf (some a0)), (1, .int (i1))] := hl
  have hu : 0 ≤ B := Nat.zero_le _
  refine hv_aload_n (r := some a0) E.1 E.2.1 dX6_sign_0 rfl (lv_at hl 0 rfl) ?_
  refine hv_aload_n (r := some a0) E.1 E.2.1 dX6_sign_1 rfl (lv_at hl 0 rfl) ?_
  refine lv_iload_n E.1 E.2.1 dX6_sign_2 rfl (lv_at hl 1 rfl) ?_
  obtain ⟨⟨fs3, hrv⟩, hw⟩ := hw
  have hq := hw
  clear hw
  refine hv_callz (u := 0) (B1 := 0) hI (vx_runV (As := [.int (i1)]) (rest := [va_rf (some a0)]) E (met_X6_isSign l htr G (d + 6) hq) (cwV 1 E.2.2.2.2 (lw_V q969 q971 qs23 q129 q972) rfl rfl rfl hd_X6_isSign (rm_ok (by omega) (by decide))) (hv_preV hK hI hrv rfl) rfl rfl hl.1 rfl (lv_room (by first | rfl | decide | (simp [va_rf_cat, int_cat, long_cat]; done) | (simp [va_rf_cat, int_cat, long_cat]; decide))) dX6_sign_3 (hv_fit (by first | exact hu | omega))) (fun _ _ _ _ _ h => h.elim) (fun b2 y1 H locs hw hI => ?_)
  refine lv_iconst (v := nI 1) E.1 E.2.1 dX6_sign_6 rfl ?_
  obtain ⟨⟨fs5, hrv⟩, hw⟩ := hw
  obtain ⟨k6, hB, hw⟩ := hw
  have hq := hw
  clear hw
  refine hv_callv (u := 0) (B1 := k6) hI (vx_runV (As := [.int (bi b2), .int (nI 1)]) (rest := []) E (met_X6_must l htr G (d + 2) hq) (cwV 2 E.2.2.2.2 (lw_V q594 q596 qs9 q129 q597) rfl rfl rfl hd_X6_must (rm_ok (by omega) (by decide))) (hv_preV hK hI hrv rfl) rfl rfl hl.1 rfl (lv_room (by first | rfl | decide | (simp [va_rf_cat, int_cat, long_cat]; done) | (simp [va_rf_cat, int_cat, long_cat]; decide))) dX6_sign_7 (hv_fit (by first | exact hB | omega))) (fun ec q y1 H locs hx hI hc => hv_out hE hlocks hI hc (by first | exact hB | omega) hx) (fun y4 H locs hw hI => ?_)
  have hu := hB
  refine hv_aload_n (r := some a0) E.1 E.2.1 dX6_sign_10 rfl (lv_at hl 0 rfl) ?_
  obtain ⟨⟨fs8, hrv⟩, hw⟩ := hw
  obtain ⟨k9, hB, hw⟩ := hw
  have hq := hw
  clear hw
  refine hv_callv (u := ((0 + k6))) (B1 := k9) hI (vx_runV (As := []) (rest := []) E (met_X6_next l htr G (d) hq) (cwV 0 E.2.2.2.2 (lw_V q314 q316 qs1 q129 q317) rfl rfl rfl hd_X6_next (rm_ok (by omega) (by decide))) (hv_preV hK hI hrv rfl) rfl rfl hl.1 rfl (lv_room (by first | rfl | decide | (simp [va_rf_cat, int_cat, long_cat]; done) | (simp [va_rf_cat, int_cat, long_cat]; decide))) dX6_sign_11 (hv_fit (by first | exact hB | omega))) (fun _ _ _ _ _ h => h.elim) (fun y7 H locs hw hI => ?_)
  have hu := hB
  exact hv_vret E hr hlocks hI hu hw dX6_sign_14
/-- CaseGrouper$Reader.known(LCaseGrouper$Atom;I)LCaseGrouper$Atom; -/
def wp_X6_known (G : GP) (B : Nat) (post : Option Nat → HS → Prop) (xp : Nat → Nat → HS → Prop) (y0 : HS) (a0 : Nat) (p1 : Option Nat) (i2 : Int32) : Prop := ∃ I1 : Nat → HS → Nat → Int32 → Prop, (∃ n8, I1 n8 y0 0 (nI 0)) ∧ ∀ (n2 : Nat) (y3 : HS) (u7 : Nat) (x6 : Int32), I1 n2 y3 u7 x6 → u7 ≤ B ∧ ∃ f9, fR y3 a0 4 8 f9 ∧ ∃ a10, f9 = some a10 ∧ ∃ f11, fR y3 a10 7 3 f11 ∧ ∃ a12, f11 = some a12 ∧ (∃ fs15, rd G y3 a12 (ob 18 fs15)) ∧ wp_J2_size G (fun x14 y13 => (x14 ≤ x6 → ∃ a17, p1 = some a17 ∧ ∃ f18, fI y13 a17 13 4 f18 ∧ (¬ f18 = (nI 6) → ∃ f20, fR y13 a0 4 8 f20 ∧ ∃ a21, f20 = some a21 ∧ ∃ f22, fR y13 a21 7 3 f22 ∧ ∃ a23, f22 = some a23 ∧ (∃ fs26, rd G y13 a23 (ob 18 fs26)) ∧ ∃ k27, u7 + k27 ≤ B ∧ wp_J2_add G k27 (fun b25 y24 => post (some a17) y24) y13 a23 (some a17)) ∧ (f18 = (nI 6) → u7 + 1 ≤ B ∧ ∀ a29, a29 = y13.2 → ∀ y28, y28 = hnew y13 (ob 6 [va_rf none, va_rf none, va_rf none, va_rf none, va_rf none, .int 0, .int 0]) → wp_X8_init G (fun y30 => ∃ fs31, y30.1 a29 = some (ob 6 fs31) ∧ xp 6 a29 y30) y28 a29 i2 (nI 4))) ∧ (¬ x14 ≤ x6 → ∃ f32, fR y13 a0 4 8 f32 ∧ ∃ a33, f32 = some a33 ∧ ∃ f34, fR y13 a33 7 3 f34 ∧ ∃ a35, f34 = some a35 ∧ (∃ fs38, rd G y13 a35 (ob 18 fs38)) ∧ wp_J2_get G (fun r37 y36 => isOf G y36 r37 13 ∧ ∃ a39, r37 = some a39 ∧ (∃ fs42, rd G y36 a39 (ob 13 fs42)) ∧ wp_X15_isLike G (fun b41 y40 => (b41 = false → ∃ n44, n44 < n2 ∧ I1 n44 y40 u7 (x6 + nI 1)) ∧ (b41 = true → ∃ f45, fR y40 a0 4 8 f45 ∧ ∃ a46, f45 = some a46 ∧ ∃ f47, fR y40 a46 7 3 f47 ∧ ∃ a48, f47 = some a48 ∧ (∃ fs51, rd G y40 a48 (ob 18 fs51)) ∧ wp_J2_get G (fun r50 y49 => isOf G y49 r50 13 ∧ post r50 y49) y40 a48 x6)) y36 a39 p1) y13 a35 x6)) y3 a12
theorem hs_X6_known : yX6_known.cls ≠ "java/lang/invoke/MethodHandle" ∧ yX6_known.cls ≠ "java/lang/invoke/VarHandle" ∧ (parseMethodDescriptor yX6_known.desc).map (fun d => d.parameters.length) = some 2 := by decide +kernel
theorem hd_X6_known : yX6_known.cls = RX6 ∧ yX6_known.cls ≠ "java/lang/invoke/MethodHandle" ∧ yX6_known.cls ≠ "java/lang/invoke/VarHandle" ∧ (parseMethodDescriptor yX6_known.desc).map (fun d => d.parameters.length) = some 2 := by decide +kernel
set_option maxHeartbeats 4000000 in
theorem met_X6_known (l : Launch) (htr : l.stackTraces = false) (G : GP) (d : Nat) {B : Nat} {post : Option Nat → HS → Prop} {xp : Nat → Nat → HS → Prop} {y0 : HS} {a0 : Nat} {p1 : Option Nat} {i2 : Int32} (hw : wp_X6_known G B post xp y0 a0 p1 i2) : vx_Met l yX6_known (ws_ yX6_known cX6_known 4 (some (.object "CaseGrouper$Atom"))) (rmB (d + 7) B) (hPc G y0 [va_rf (some a0), va_rf p1, .int (i2)]) (hQq G y0 post) (hX G y0 xp) B (20 * B) (HA y0) := by
  unfold wp_X6_known at hw
  refine hv_met (own := RX6) (by decide) rfl (by simp [lg_sl, va_rf_cat, int_cat, long_cat]) ?_
  intro p e s m args below meth c ls E hr hlocks hnm hE hK hI hl
  replace hl : lv_has ls 4 [(0, va_rf (some a0)), (1, va_rf p1), (2, .int (i2))] := by simpa [lv_args, va_rf_cat, int_cat, long_cat] using hl
  have hu : 0 ≤ B := Nat.zero_le _
  refine lv_iconst (v := nI 0) E.1 E.2.1 dX6_known_0 rfl ?_
  refine lv_istore_n (lv' := [(3, .int (nI 0)), (0, va_rf (some a0)), (1, va_rf p1), (2, .int (i2))]) E.1 E.2.1 dX6_known_1 rfl hl (Nat.le_of_ble_eq_true rfl) (by first | rfl | decide | (simp [va_rf_cat, int_cat, long_cat]; done) | (simp [va_rf_cat, int_cat, long_cat]; decide)) (fun ls hl => ?_)
  obtain ⟨I1, ⟨n8, hi53⟩, hb52⟩ := hw
  have L5 : ∀ (n2 : Nat) (y3 : HS) (u7 : Nat) (x6 : Int32), I1 n2 y3 u7 x6 → ∀ (H : Heap) (locs : List Loc) (ls : Array Slot), HI G y0 y3 s H locs → lv_has ls 4 [(0, va_rf (some a0)), (1, va_rf p1), (2, .int (i2)), (3, .int (x6))] → W p l e (rmB (d + 7) B) s m args below meth c H locs u7 (20 * u7) (vx_MQ below (hQq G y0 post) (hX G y0 xp) args s B (20 * B) (HA y0)) (F0 m 2 ls []) := by
    intro n2
    induction n2 using Nat.strongRecOn with
    | _ n2 ih4 =>
      intro y3 u7 x6 hw H locs ls hI hl
      replace hw := hb52 n2 y3 u7 x6 hw
      obtain ⟨hu, hw⟩ := hw
      refine lv_iload_n E.1 E.2.1 dX6_known_2 rfl (lv_at hl 3 rfl) ?_
      refine hv_aload_n (r := some a0) E.1 E.2.1 dX6_known_3 rfl (lv_at hl 0 rfl) ?_
      obtain ⟨f9, ⟨fs, hfs, hfk⟩, hw⟩ := hw
      refine hv_get (v := va_rf f9) E hK hI ciX6 8 (Nat.le_of_ble_eq_true rfl) q286 (fun _ h => h) (Or.inl hfs) hfk dX6_known_4 ?_
      obtain ⟨a10, ea10, hw⟩ := hw
      revert hl hw; subst ea10; intro hl hw
      obtain ⟨f11, ⟨fs, hfs, hfk⟩, hw⟩ := hw
      refine hv_getN (v := va_rf f11) E hK hI ciX9 3 (Nat.le_of_ble_eq_true rfl) q816 (fun _ h => h) (Or.inl hfs) hfk dX6_known_7 ?_
      obtain ⟨a12, ea12, hw⟩ := hw
      revert hl hw; subst ea12; intro hl hw
      obtain ⟨⟨fs15, hrv⟩, hw⟩ := hw
      have hq := hw
      clear hw
      refine hv_calli (u := u7) (B1 := 0) hI (vx_runV (As := []) (rest := [.int (x6)]) E (met_J2_size l G (d + 6) hq) (cwV 0 E.2.2.2.2 (lw_V q751 q752 q753 q124 q754) rfl rfl rfl hd_J2_size (rm_ok (by omega) (by decide))) (hv_preV hK hI hrv rfl) rfl rfl hl.1 rfl (lv_room (by first | rfl | decide | (simp [va_rf_cat, int_cat, long_cat]; done) | (simp [va_rf_cat, int_cat, long_cat]; decide))) dX6_known_10 (hv_fit (by first | exact hu | omega))) (fun _ _ _ _ _ h => h.elim) (fun x14 y13 H locs hw hI => ?_)
      refine lv_icmp_ge (tgt := 58) E.1 E.2.1 dX6_known_13 (by decide) (fun c16 => ?_) (fun c16 => ?_)
      · replace hw := hw.1 (c16)
        refine hv_aload_n (r := p1) E.1 E.2.1 dX6_known_58 rfl (lv_at hl 1 rfl) ?_
        obtain ⟨a17, ea17, hw⟩ := hw
        revert hl hw; subst ea17; intro hl hw
        obtain ⟨f18, ⟨fs, hfs, hfk⟩, hw⟩ := hw
        refine hv_getN (v := .int f18) E hK hI ciX15 4 (Nat.le_of_ble_eq_true rfl) q1168 (fun _ h => h) (Or.inl hfs) hfk dX6_known_59 ?_
        refine lv_bipush (v := nI 6) E.1 E.2.1 dX6_known_62 rfl ?_
        refine lv_icmp_ne (tgt := 77) E.1 E.2.1 dX6_known_64 (by decide) (fun c19 => ?_) (fun c19 => ?_)
        · replace hw := hw.1 (c19)
          refine hv_aload_n (r := some a0) E.1 E.2.1 dX6_known_77 rfl (lv_at hl 0 rfl) ?_
          obtain ⟨f20, ⟨fs, hfs, hfk⟩, hw⟩ := hw
          refine hv_get (v := va_rf f20) E hK hI ciX6 8 (Nat.le_of_ble_eq_true rfl) q286 (fun _ h => h) (Or.inl hfs) hfk dX6_known_78 ?_
          obtain ⟨a21, ea21, hw⟩ := hw
          revert hl hw; subst ea21; intro hl hw
          obtain ⟨f22, ⟨fs, hfs, hfk⟩, hw⟩ := hw
          refine hv_getN (v := va_rf f22) E hK hI ciX9 3 (Nat.le_of_ble_eq_true rfl) q816 (fun _ h => h) (Or.inl hfs) hfk dX6_known_81 ?_
          refine hv_aload_n (r := some a17) E.1 E.2.1 dX6_known_84 rfl (lv_at hl 1 rfl) ?_
          obtain ⟨a23, ea23, hw⟩ := hw
          revert hl hw; subst ea23; intro hl hw
          obtain ⟨⟨fs26, hrv⟩, hw⟩ := hw
          obtain ⟨k27, hB, hw⟩ := hw
          have hq := hw
          clear hw
          refine hv_callz (u := u7) (B1 := k27) hI (vx_runV (As := [va_rf (some a17)]) (rest := []) E (met_J2_add l G (d) hq) (cwV 1 E.2.2.2.2 (lw_V q909 q910 q911 q124 q912) rfl rfl rfl hd_J2_add (rm_ok (by omega) (by decide))) (hv_preV hK hI hrv rfl) rfl rfl hl.1 rfl (lv_room (by first | rfl | decide | (simp [va_rf_cat, int_cat, long_cat]; done) | (simp [va_rf_cat, int_cat, long_cat]; decide))) dX6_known_85 (hv_fit (by first | exact hB | omega))) (fun _ _ _ _ _ h => h.elim) (fun b25 y24 H locs hw hI => ?_)
          have hu := hB
          refine lv_pop E.1 E.2.1 dX6_known_88 rfl ?_
          refine hv_aload_n (r := some a17) E.1 E.2.1 dX6_known_89 rfl (lv_at hl 1 rfl) ?_
          exact hv_aret (r := some a17) E hr (Or.inl ⟨_, rfl⟩) hlocks hI hu hw dX6_known_90
        · replace hw := hw.2 (c19)
          obtain ⟨hu, hw⟩ := hw
          refine hv_new (fs := [va_rf none, va_rf none, va_rf none, va_rf none, va_rf none, .int 0, .int 0]) E hK hI ciX8 q313 q602 q148 (df6) (Nat.le_of_ble_eq_true rfl) hu dX6_known_67 (fun H hI => ?_)
          obtain ⟨a29, ea29⟩ : ∃ w, w = y13.2 := ⟨_, rfl⟩
          obtain ⟨y28, ey28⟩ : ∃ w, w = hnew y13 (ob 6 [va_rf none, va_rf none, va_rf none, va_rf none, va_rf none, .int 0, .int 0]) := ⟨_, rfl⟩
          rw [← ea29]
          rw [← ey28] at hI
          replace hw := hw a29 ea29 y28 ey28
          refine hv_dup E.1 E.2.1 dX6_known_70 ?_
          refine lv_iload_n E.1 E.2.1 dX6_known_71 rfl (lv_at hl 2 rfl) ?_
          refine lv_iconst (v := nI 4) E.1 E.2.1 dX6_known_72 rfl ?_
          have hq := hw
          clear hw
          refine hv_callv (u := ((u7 + 1))) (B1 := 0) hI (vx_runI (b := a29) (As := [.int (i2), .int (nI 4)]) (rest := [va_rf (some a29)]) E (met_X8_init l G (d + 3) hq) (cwI 2 E.2.2.2.2 (lw_meth q658) rfl rfl rfl (E.2.2.2.2 _ q148) (E.2.2.2.2 _ q656) (E.2.2.2.2 _ q657) rfl hs_X8_init (rm_ok (by omega) (by decide))) (hv_preS hK hI) rfl rfl hl.1 rfl (lv_room (by first | rfl | decide | (simp [va_rf_cat, int_cat, long_cat]; done) | (simp [va_rf_cat, int_cat, long_cat]; decide))) dX6_known_73 (hv_fit (by first | exact hu | omega))) (fun _ _ _ _ _ h => h.elim) (fun y30 H locs hw hI => ?_)
          obtain ⟨fs31, hfs, hw⟩ := hw
          refine hv_athrow (q := a29) E dX6_known_76 ?_
          exact hv_out hE hlocks hI (hI.xcell hK (by decide) hfs) hu hw
      · replace hw := hw.2 (c16)
        refine hv_aload_n (r := some a0) E.1 E.2.1 dX6_known_16 rfl (lv_at hl 0 rfl) ?_
        obtain ⟨f32, ⟨fs, hfs, hfk⟩, hw⟩ := hw
        refine hv_get (v := va_rf f32) E hK hI ciX6 8 (Nat.le_of_ble_eq_true rfl) q286 (fun _ h => h) (Or.inl hfs) hfk dX6_known_17 ?_
        obtain ⟨a33, ea33, hw⟩ := hw
        revert hl hw; subst ea33; intro hl hw
        obtain ⟨f34, ⟨fs, hfs, hfk⟩, hw⟩ := hw
        refine hv_getN (v := va_rf f34) E hK hI ciX9 3 (Nat.le_of_ble_eq_true rfl) q816 (fun _ h => h) (Or.inl hfs) hfk dX6_known_20 ?_
        refine lv_iload_n E.1 E.2.1 dX6_known_23 rfl (lv_at hl 3 rfl) ?_
        obtain ⟨a35, ea35, hw⟩ := hw
        revert hl hw; subst ea35; intro hl hw
        obtain ⟨⟨fs38, hrv⟩, hw⟩ := hw
        have hq := hw
        clear hw
        refine hv_callq (u := u7) (B1 := 0) hI (vx_runV (As := [.int (x6)]) (rest := []) E (met_J2_get l G (d + 4) hq) (cwV 1 E.2.2.2.2 (lw_V q1145 q785 q786 q124 q787) rfl rfl rfl hd_J2_get (rm_ok (by omega) (by decide))) (hv_preV hK hI hrv rfl) rfl rfl hl.1 rfl (lv_room (by first | rfl | decide | (simp [va_rf_cat, int_cat, long_cat]; done) | (simp [va_rf_cat, int_cat, long_cat]; decide))) dX6_known_24 (hv_fit (by first | exact hu | omega))) (fun _ _ _ _ _ h => h.elim) (fun r37 y36 H locs hw hI => ?_)
        obtain ⟨hof, hw⟩ := hw
        refine hv_castC (cn := 13) E hK hI (by decide) q1139 hof dX6_known_27 ?_
        refine hv_aload_n (r := p1) E.1 E.2.1 dX6_known_30 rfl (lv_at hl 1 rfl) ?_
        obtain ⟨a39, ea39, hw⟩ := hw
        revert hl hw; subst ea39; intro hl hw
        obtain ⟨⟨fs42, hrv⟩, hw⟩ := hw
        have hq := hw
        clear hw
        refine hv_callz (u := u7) (B1 := 0) hI (vx_runV (As := [va_rf p1]) (rest := []) E (met_X15_isLike l G (d + 4) hq) (cwV 1 E.2.2.2.2 (lw_V q1184 q1185 q1186 q159 q1187) rfl rfl rfl hd_X15_isLike (rm_ok (by omega) (by decide))) (hv_preV hK hI hrv rfl) rfl rfl hl.1 rfl (lv_room (by first | rfl | decide | (simp [va_rf_cat, int_cat, long_cat]; done) | (simp [va_rf_cat, int_cat, long_cat]; decide))) dX6_known_31 (hv_fit (by first | exact hu | omega))) (fun _ _ _ _ _ h => h.elim) (fun b41 y40 H locs hw hI => ?_)
        refine lv_if_eq (tgt := 52) E.1 E.2.1 dX6_known_34 (by decide) (fun c43 => ?_) (fun c43 => ?_)
        · replace hw := hw.1 (bi_z c43)
          refine lv_iinc (k := 3) (v := x6 + nI 1) (lv' := [(3, .int (x6 + nI 1)), (0, va_rf (some a0)), (1, va_rf p1), (2, .int (i2))]) E.1 E.2.1 dX6_known_52 hl rfl rfl (Nat.le_of_ble_eq_true rfl) (by first | rfl | decide | (simp [va_rf_cat, int_cat, long_cat]; done) | (simp [va_rf_cat, int_cat, long_cat]; decide)) (fun ls hl => ?_)
          refine lv_goto (tgt := 2) E.1 E.2.1 dX6_known_55 (by decide) ?_
          obtain ⟨n44, hnn44, hin44⟩ := hw
          exact ih4 n44 hnn44 _ _ _ hin44 _ _ _ hI (lv_sub hl [1, 2, 3, 0] rfl)
        · replace hw := hw.2 (bi_n c43)
          refine hv_aload_n (r := some a0) E.1 E.2.1 dX6_known_37 rfl (lv_at hl 0 rfl) ?_
          obtain ⟨f45, ⟨fs, hfs, hfk⟩, hw⟩ := hw
          refine hv_get (v := va_rf f45) E hK hI ciX6 8 (Nat.le_of_ble_eq_true rfl) q286 (fun _ h => h) (Or.inl hfs) hfk dX6_known_38 ?_
          obtain ⟨a46, ea46, hw⟩ := hw
          revert hl hw; subst ea46; intro hl hw
          obtain ⟨f47, ⟨fs, hfs, hfk⟩, hw⟩ := hw
          refine hv_getN (v := va_rf f47) E hK hI ciX9 3 (Nat.le_of_ble_eq_true rfl) q816 (fun _ h => h) (Or.inl hfs) hfk dX6_known_41 ?_
          refine lv_iload_n E.1 E.2.1 dX6_known_44 rfl (lv_at hl 3 rfl) ?_
          obtain ⟨a48, ea48, hw⟩ := hw
          revert hl hw; subst ea48; intro hl hw
          obtain ⟨⟨fs51, hrv⟩, hw⟩ := hw
          have hq := hw
          clear hw
          refine hv_callq (u := u7) (B1 := 0) hI (vx_runV (As := [.int (x6)]) (rest := []) E (met_J2_get l G (d + 4) hq) (cwV 1 E.2.2.2.2 (lw_V q1145 q785 q786 q124 q787) rfl rfl rfl hd_J2_get (rm_ok (by omega) (by decide))) (hv_preV hK hI hrv rfl) rfl rfl hl.1 rfl (lv_room (by first | rfl | decide | (simp [va_rf_cat, int_cat, long_cat]; done) | (simp [va_rf_cat, int_cat, long_cat]; decide))) dX6_known_45 (hv_fit (by first | exact hu | omega))) (fun _ _ _ _ _ h => h.elim) (fun r50 y49 H locs hw hI => ?_)
          obtain ⟨hof, hw⟩ := hw
          refine hv_castC (cn := 13) E hK hI (by decide) q1139 hof dX6_known_48 ?_
          exact hv_aret (r := r50) E hr (Or.inl ⟨_, rfl⟩) hlocks hI hu hw dX6_known_51
  exact L5 n8 _ _ _ hi53 _ _ _ hI (lv_sub hl [1, 2, 3, 0] rfl)
/-- CaseGrouper$Reader.manyOf(Z)I -/
def wp_X6_manyOf (G : GP) (post : Int32 → HS → Prop) (y0 : HS) (a0 : Nat) (o1 : Bool) : Prop := ∃ I1 : Nat → HS → Int32 → Int32 → Prop, (∃ n8, I1 n8 y0 (nI 0) (nI 0)) ∧ ∀ (n2 : Nat) (y3 : HS) (x6 : Int32) (x7 : Int32), I1 n2 y3 x6 x7 → ∃ f9, fR y3 a0 4 8 f9 ∧ ∃ a10, f9 = some a10 ∧ ∃ f11, fR y3 a10 7 3 f11 ∧ ∃ a12, f11 = some a12 ∧ (∃ fs15, rd G y3 a12 (ob 18 fs15)) ∧ wp_J2_size G (fun x14 y13 => (x14 ≤ x7 → post x6 y13) ∧ (¬ x14 ≤ x7 → ∃ f17, fR y13 a0 4 8 f17 ∧ ∃ a18, f17 = some a18 ∧ ∃ f19, fR y13 a18 7 3 f19 ∧ ∃ a20, f19 = some a20 ∧ (∃ fs23, rd G y13 a20 (ob 18 fs23)) ∧ wp_J2_get G (fun r22 y21 => isOf G y21 r22 13 ∧ ∃ a24, r22 = some a24 ∧ (∃ fs27, rd G y21 a24 (ob 13 fs27)) ∧ wp_X15_isOfCodes G (fun b26 y25 => (¬ (bi b26) = (bi o1) → ∀ x29, x29 = x6 + (nI 0) → ∃ n30, n30 < n2 ∧ I1 n30 y25 x29 (x7 + nI 1)) ∧ ((bi b26) = (bi o1) → ∀ x31, x31 = x6 + (nI 1) → ∃ n32, n32 < n2 ∧ I1 n32 y25 x31 (x7 + nI 1))) y21 a24) y13 a20 x7)) y3 a12
theorem hs_X6_manyOf : yX6_manyOf.cls ≠ "java/lang/invoke/MethodHandle" ∧ yX6_manyOf.cls ≠ "java/lang/invoke/VarHandle" ∧ (parseMethodDescriptor yX6_manyOf.desc).map (fun d => d.parameters.length) = some 1 := by decide +kernel
theorem hd_X6_manyOf : yX6_manyOf.cls = RX6 ∧ yX6_manyOf.cls ≠ "java/lang/invoke/MethodHandle" ∧ yX6_manyOf.cls ≠ "java/lang/invoke/VarHandle" ∧ (parseMethodDescriptor yX6_manyOf.desc).map (fun d => d.parameters.length) = some 1 := by decide +kernel
set_option maxHeartbeats 4000000 in
theorem met_X6_manyOf (l : Launch) (htr : l.stackTraces = false) (G : GP) (d : Nat) {post : Int32 → HS → Prop} {y0 : HS} {a0 : Nat} {o1 : Bool} (hw : wp_X6_manyOf G post y0 a0 o1) : vx_Met l yX6_manyOf (ws_ yX6_manyOf cX6_manyOf 4 (some .int)) (rmB (d + 3) 0) (hPc G y0 [va_rf (some a0), .int (bi o1)]) (hQi G y0 post) (hX G y0 (fun _ _ _ => False)) 0 (20 * 0) (HA y0) := by
  unfold wp_X6_manyOf at hw
  refine hv_met (own := RX6) (by decide) rfl (Nat.le_of_ble_eq_true rfl) ?_
  intro p e s m args below meth c ls E hr hlocks hnm hE hK hI hl
  replace hl : lv_has ls 4 [(0, va_rf (some a0)), (1, .int (bi o1))] := hl
  refine lv_iconst (v := nI 0) E.1 E.2.1 dX6_manyOf_0 rfl ?_
  refine lv_istore_n (lv' := [(2, .int (nI 0)), (0, va_rf (some a0)), (1, .int (bi o1))]) E.1 E.2.1 dX6_manyOf_1 rfl hl (Nat.le_of_ble_eq_true rfl) (by first | rfl | decide | (simp [va_rf_cat, int_cat, long_cat]; done) | (simp [va_rf_cat, int_cat, long_cat]; decide)) (fun ls hl => ?_)
  refine lv_iconst (v := nI 0) E.1 E.2.1 dX6_manyOf_2 rfl ?_
  refine lv_istore_n (lv' := [(3, .int (nI 0)), (2, .int (nI 0)), (0, va_rf (some a0)), (1, .int (bi o1))]) E.1 E.2.1 dX6_manyOf_3 rfl hl (Nat.le_of_ble_eq_true rfl) (by first | rfl | decide | (simp [va_rf_cat, int_cat, long_cat]; done) | (simp [va_rf_cat, int_cat, long_cat]; decide)) (fun ls hl => ?_)
  obtain ⟨I1, ⟨n8, hi34⟩, hb33⟩ := hw
  have L5 : ∀ (n2 : Nat) (y3 : HS) (x6 : Int32) (x7 : Int32), I1 n2 y3 x6 x7 → ∀ (H : Heap) (locs : List Loc) (ls : Array Slot), HI G y0 y3 s H locs → lv_has ls 4 [(0, va_rf (some a0)), (1, .int (bi o1)), (2, .int (x6)), (3, .int (x7))] → W p l e (rmB (d + 3) 0) s m args below meth c H locs 0 (20 * 0) (vx_MQ below (hQi G y0 post) (hX G y0 (fun _ _ _ => False)) args s 0 (20 * 0) (HA y0)) (F0 m 4 ls []) := by
    intro n2
    induction n2 using Nat.strongRecOn with
    | _ n2 ih4 =>
      intro y3 x6 x7 hw H locs ls hI hl
      replace hw := hb33 n2 y3 x6 x7 hw
      refine lv_iload_n E.1 E.2.1 dX6_manyOf_4 rfl (lv_at hl 3 rfl) ?_
      refine hv_aload_n (r := some a0) E.1 E.2.1 dX6_manyOf_5 rfl (lv_at hl 0 rfl) ?_
      obtain ⟨f9, ⟨fs, hfs, hfk⟩, hw⟩ := hw
      refine hv_get (v := va_rf f9) E hK hI ciX6 8 (Nat.le_of_ble_eq_true rfl) q286 (fun _ h => h) (Or.inl hfs) hfk dX6_manyOf_6 ?_
      obtain ⟨a10, ea10, hw⟩ := hw
      revert hl hw; subst ea10; intro hl hw
      obtain ⟨f11, ⟨fs, hfs, hfk⟩, hw⟩ := hw
      refine hv_getN (v := va_rf f11) E hK hI ciX9 3 (Nat.le_of_ble_eq_true rfl) q816 (fun _ h => h) (Or.inl hfs) hfk dX6_manyOf_9 ?_
      obtain ⟨a12, ea12, hw⟩ := hw
      revert hl hw; subst ea12; intro hl hw
      obtain ⟨⟨fs15, hrv⟩, hw⟩ := hw
      have hq := hw
      clear hw
      refine hv_calli (u := 0) (B1 := 0) hI (vx_runV (As := []) (rest := [.int (x7)]) E (met_J2_size l G (d + 2) hq) (cwV 0 E.2.2.2.2 (lw_V q751 q752 q753 q124 q754) rfl rfl rfl hd_J2_size (rm_ok (by omega) (by decide))) (hv_preV hK hI hrv rfl) rfl rfl hl.1 rfl (lv_room (by first | rfl | decide | (simp [va_rf_cat, int_cat, long_cat]; done) | (simp [va_rf_cat, int_cat, long_cat]; decide))) dX6_manyOf_12 (hv_fit (by first | exact (Nat.le_refl 0) | omega))) (fun _ _ _ _ _ h => h.elim) (fun x14 y13 H locs hw hI => ?_)
      refine lv_icmp_ge (tgt := 53) E.1 E.2.1 dX6_manyOf_15 (by decide) (fun c16 => ?_) (fun c16 => ?_)
      · replace hw := hw.1 (c16)
        refine lv_iload_n E.1 E.2.1 dX6_manyOf_53 rfl (lv_at hl 2 rfl) ?_
        exact hv_ireti E hr hlocks hI (Nat.le_refl 0) hw dX6_manyOf_54
      · replace hw := hw.2 (c16)
        refine lv_iload_n E.1 E.2.1 dX6_manyOf_18 rfl (lv_at hl 2 rfl) ?_
        refine hv_aload_n (r := some a0) E.1 E.2.1 dX6_manyOf_19 rfl (lv_at hl 0 rfl) ?_
        obtain ⟨f17, ⟨fs, hfs, hfk⟩, hw⟩ := hw
        refine hv_get (v := va_rf f17) E hK hI ciX6 8 (Nat.le_of_ble_eq_true rfl) q286 (fun _ h => h) (Or.inl hfs) hfk dX6_manyOf_20 ?_
        obtain ⟨a18, ea18, hw⟩ := hw
        revert hl hw; subst ea18; intro hl hw
        obtain ⟨f19, ⟨fs, hfs, hfk⟩, hw⟩ := hw
        refine hv_getN (v := va_rf f19) E hK hI ciX9 3 (Nat.le_of_ble_eq_true rfl) q816 (fun _ h => h) (Or.inl hfs) hfk dX6_manyOf_23 ?_
        refine lv_iload_n E.1 E.2.1 dX6_manyOf_26 rfl (lv_at hl 3 rfl) ?_
        obtain ⟨a20, ea20, hw⟩ := hw
        revert hl hw; subst ea20; intro hl hw
        obtain ⟨⟨fs23, hrv⟩, hw⟩ := hw
        have hq := hw
        clear hw
        refine hv_callq (u := 0) (B1 := 0) hI (vx_runV (As := [.int (x7)]) (rest := [.int (x6)]) E (met_J2_get l G (d) hq) (cwV 1 E.2.2.2.2 (lw_V q1145 q785 q786 q124 q787) rfl rfl rfl hd_J2_get (rm_ok (by omega) (by decide))) (hv_preV hK hI hrv rfl) rfl rfl hl.1 rfl (lv_room (by first | rfl | decide | (simp [va_rf_cat, int_cat, long_cat]; done) | (simp [va_rf_cat, int_cat, long_cat]; decide))) dX6_manyOf_27 (hv_fit (by first | exact (Nat.le_refl 0) | omega))) (fun _ _ _ _ _ h => h.elim) (fun r22 y21 H locs hw hI => ?_)
        obtain ⟨hof, hw⟩ := hw
        refine hv_castC (cn := 13) E hK hI (by decide) q1139 hof dX6_manyOf_30 ?_
        obtain ⟨a24, ea24, hw⟩ := hw
        revert hl hw; subst ea24; intro hl hw
        obtain ⟨⟨fs27, hrv⟩, hw⟩ := hw
        have hq := hw
        clear hw
        refine hv_callz (u := 0) (B1 := 0) hI (vx_runV (As := []) (rest := [.int (x6)]) E (met_X15_isOfCodes l G (d + 2) hq) (cwV 0 E.2.2.2.2 (lw_V q1146 q1147 q1148 q159 q1149) rfl rfl rfl hd_X15_isOfCodes (rm_ok (by omega) (by decide))) (hv_preV hK hI hrv rfl) rfl rfl hl.1 rfl (lv_room (by first | rfl | decide | (simp [va_rf_cat, int_cat, long_cat]; done) | (simp [va_rf_cat, int_cat, long_cat]; decide))) dX6_manyOf_33 (hv_fit (by first | exact (Nat.le_refl 0) | omega))) (fun _ _ _ _ _ h => h.elim) (fun b26 y25 H locs hw hI => ?_)
        refine lv_iload_n E.1 E.2.1 dX6_manyOf_36 rfl (lv_at hl 1 rfl) ?_
        refine lv_icmp_ne (tgt := 44) E.1 E.2.1 dX6_manyOf_37 (by decide) (fun c28 => ?_) (fun c28 => ?_)
        · replace hw := hw.1 (c28)
          refine lv_iconst (v := nI 0) E.1 E.2.1 dX6_manyOf_44 rfl ?_
          refine lv_iadd E.1 E.2.1 dX6_manyOf_45 ?_
          refine lv_topi (fun x29 ex29 => ?_)
          replace hw := hw x29 ex29
          refine lv_istore_n (lv' := [(2, .int (x29)), (0, va_rf (some a0)), (1, .int (bi o1)), (3, .int (x7))]) E.1 E.2.1 dX6_manyOf_46 rfl hl (Nat.le_of_ble_eq_true rfl) (by first | rfl | decide | (simp [va_rf_cat, int_cat, long_cat]; done) | (simp [va_rf_cat, int_cat, long_cat]; decide)) (fun ls hl => ?_)
          refine lv_iinc (k := 3) (v := x7 + nI 1) (lv' := [(3, .int (x7 + nI 1)), (2, .int (x29)), (0, va_rf (some a0)), (1, .int (bi o1))]) E.1 E.2.1 dX6_manyOf_47 hl rfl rfl (Nat.le_of_ble_eq_true rfl) (by first | rfl | decide | (simp [va_rf_cat, int_cat, long_cat]; done) | (simp [va_rf_cat, int_cat, long_cat]; decide)) (fun ls hl => ?_)
          refine lv_goto (tgt := 4) E.1 E.2.1 dX6_manyOf_50 (by decide) ?_
          obtain ⟨n30, hnn30, hin30⟩ := hw
          exact ih4 n30 hnn30 _ _ _ hin30 _ _ _ hI (lv_sub hl [2, 3, 1, 0] rfl)
        · replace hw := hw.2 (c28)
          refine lv_iconst (v := nI 1) E.1 E.2.1 dX6_manyOf_40 rfl ?_
          refine lv_goto (tgt := 45) E.1 E.2.1 dX6_manyOf_41 (by decide) ?_
          refine lv_iadd E.1 E.2.1 dX6_manyOf_45 ?_
          refine lv_topi (fun x31 ex31 => ?_)
          replace hw := hw x31 ex31
          refine lv_istore_n (lv' := [(2, .int (x31)), (0, va_rf (some a0)), (1, .int (bi o1)), (3, .int (x7))]) E.1 E.2.1 dX6_manyOf_46 rfl hl (Nat.le_of_ble_eq_true rfl) (by first | rfl | decide | (simp [va_rf_cat, int_cat, long_cat]; done) | (simp [va_rf_cat, int_cat, long_cat]; decide)) (fun ls hl => ?_)
          refine lv_iinc (k := 3) (v := x7 + nI 1) (lv' := [(3, .int (x7 + nI 1)), (2, .int (x31)), (0, va_rf (some a0)), (1, .int (bi o1))]) E.1 E.2.1 dX6_manyOf_47 hl rfl rfl (Nat.le_of_ble_eq_true rfl) (by first | rfl | decide | (simp [va_rf_cat, int_cat, long_cat]; done) | (simp [va_rf_cat, int_cat, long_cat]; decide)) (fun ls hl => ?_)
          refine lv_goto (tgt := 4) E.1 E.2.1 dX6_manyOf_50 (by decide) ?_
          obtain ⟨n32, hnn32, hin32⟩ := hw
          exact ih4 n32 hnn32 _ _ _ hin32 _ _ _ hI (lv_sub hl [2, 3, 1, 0] rfl)
  exact L5 n8 _ _ _ hi34 _ _ _ hI (lv_sub hl [2, 3, 1, 0] rfl)
/-- CaseGrouper$Reader.compared(Ljava/lang/String;)LCaseGrouper$Atom; -/
def wp_X6_compared (G : GP) (B : Nat) (post : Option Nat → HS → Prop) (xp : Nat → Nat → HS → Prop) (y0 : HS) (a0 : Nat) (p1 : Option Nat) : Prop := ∃ J1 : HS → Nat → Int32 → Bool → (Option Nat) → Prop, (∀ (y3 : HS) (u7 : Nat) (x4 : Int32) (b5 : Bool) (r6 : Option Nat), J1 y3 u7 x4 b5 r6 → u7 ≤ B ∧ ∃ a8, r6 = some a8 ∧ (∃ fs10, rd G y3 a8 (ob 4 fs10)) ∧ ∃ k11, u7 + k11 ≤ B ∧ wp_X6_must G k11 (fun y9 => ∃ f12, fR y9 a0 4 4 f12 ∧ isOf G y9 f12 22 ∧ ∃ a13, f12 = some a13 ∧ (∃ fs16, rd G y9 a13 (ob 22 fs16)) ∧ wp_J14_charValue G (fun x15 y14 => (∃ fs18, rd G y14 a0 (ob 4 fs18)) ∧ ∃ k19, (u7 + k11) + k19 ≤ B ∧ wp_X6_next G k19 (fun y17 => ((u7 + k11) + k19) + 1 ≤ B ∧ ∀ a21, a21 = y17.2 → ∀ y20, y20 = hnew y17 (ob 13 [va_rf none, va_rf none, .int 0, .int 0, .int 0]) → (∃ fs24, rd G y20 a0 (ob 4 fs24)) ∧ ∃ k25, (((u7 + k11) + k19) + 1) + k25 ≤ B ∧ wp_X6_number G k25 (fun x23 y22 => (∃ fs28, rd G y22 a0 (ob 4 fs28)) ∧ wp_X6_manyOf G (fun x27 y26 => wp_X15_init G (fun y29 => (∃ fs32, rd G y29 a0 (ob 4 fs32)) ∧ ∃ k33, ((((u7 + k11) + k19) + 1) + k25) + k33 ≤ B ∧ wp_X6_known G k33 (fun r31 y30 => post r31 y30) xp y29 a0 (some a21) x4) y26 a21 p1 none x15 x23 x27) y22 a0 false) xp y20 a0 (nI 0) (nI 999)) y14 a0) y9 a13) xp y3 a8 b5 (nI 1)) ∧ (∃ J34 : HS → Nat → Int32 → (Option Nat) → Prop, (∀ (y36 : HS) (u39 : Nat) (x37 : Int32) (r38 : Option Nat), J34 y36 u39 x37 r38 → u39 ≤ B ∧ J1 y36 u39 x37 true r38) ∧ (∃ f40, fI y0 a0 4 3 f40 ∧ (∃ fs42, rd G y0 a0 (ob 4 fs42)) ∧ ∃ k43, 0 + k43 ≤ B ∧ wp_X6_next G k43 (fun y41 => (∃ fs46, rd G y41 a0 (ob 4 fs46)) ∧ wp_X6_isSign G (fun b45 y44 => (b45 = true → J34 y44 ((0 + k43)) f40 (some a0)) ∧ (b45 = false → (∃ fs50, rd G y44 a0 (ob 4 fs50)) ∧ wp_X6_isSign G (fun b49 y48 => (b49 = false → J1 y48 ((0 + k43)) f40 false (some a0)) ∧ (b49 = true → J34 y48 ((0 + k43)) f40 (some a0))) y44 a0 (nI 62))) y41 a0 (nI 60)) y0 a0))
theorem hs_X6_compared : yX6_compared.cls ≠ "java/lang/invoke/MethodHandle" ∧ yX6_compared.cls ≠ "java/lang/invoke/VarHandle" ∧ (parseMethodDescriptor yX6_compared.desc).map (fun d => d.parameters.length) = some 1 := by decide +kernel
theorem hd_X6_compared : yX6_compared.cls = RX6 ∧ yX6_compared.cls ≠ "java/lang/invoke/MethodHandle" ∧ yX6_compared.cls ≠ "java/lang/invoke/VarHandle" ∧ (parseMethodDescriptor yX6_compared.desc).map (fun d => d.parameters.length) = some 1 := by decide +kernel
set_option maxHeartbeats 4000000 in
theorem met_X6_compared (l : Launch) (htr : l.stackTraces = false) (G : GP) (d : Nat) {B : Nat} {post : Option Nat → HS → Prop} {xp : Nat → Nat → HS → Prop} {y0 : HS} {a0 : Nat} {p1 : Option Nat} (hw : wp_X6_compared G B post xp y0 a0 p1) : vx_Met l yX6_compared (ws_ yX6_compared cX6_compared 4 (some (.object "CaseGrouper$Atom"))) (rmB (d + 231) B) (hPc G y0 [va_rf (some a0), va_rf p1]) (hQq G y0 post) (hX G y0 xp) B (20 * B) (HA y0) := by
  unfold wp_X6_compared at hw
  refine hv_met (own := RX6) (by decide) rfl (by simp [lg_sl, va_rf_cat, int_cat, long_cat]) ?_
  intro p e s m args below meth c ls E hr hlocks hnm hE hK hI hl
  replace hl : lv_has ls 4 [(0, va_rf (some a0)), (1, va_rf p1)] := by simpa [lv_args, va_rf_cat, int_cat, long_cat] using hl
  have hu : 0 ≤ B := Nat.zero_le _
  obtain ⟨J1, hj53, hw⟩ := hw
  have jh2 : ∀ (y3 : HS) (u7 : Nat) (x4 : Int32) (b5 : Bool) (r6 : Option Nat), J1 y3 u7 x4 b5 r6 → ∀ (H : Heap) (locs : List Loc) (ls : Array Slot), HI G y0 y3 s H locs → lv_has ls 4 [(0, va_rf (some a0)), (1, va_rf p1), (2, .int (x4))] → W p l e (rmB (d + 231) B) s m args below meth c H locs u7 (20 * u7) (vx_MQ below (hQq G y0 post) (hX G y0 xp) args s B (20 * B) (HA y0)) (F0 m 33 ls [.int (bi b5), va_rf r6]) := by
    intro y3 u7 x4 b5 r6 hw H locs ls hI hl
    replace hw := hj53 y3 u7 x4 b5 r6 hw
    obtain ⟨hu, hw⟩ := hw
    refine lv_iconst (v := nI 1) E.1 E.2.1 dX6_compared_33 rfl ?_
    obtain ⟨a8, ea8, hw⟩ := hw
    revert hl hw; subst ea8; intro hl hw
    obtain ⟨⟨fs10, hrv⟩, hw⟩ := hw
    obtain ⟨k11, hB, hw⟩ := hw
    have hq := hw
    clear hw
    refine hv_callv (u := u7) (B1 := k11) hI (vx_runV (As := [.int (bi b5), .int (nI 1)]) (rest := []) E (met_X6_must l htr G (d + 225) hq) (cwV 2 E.2.2.2.2 (lw_V q594 q596 qs9 q129 q597) rfl rfl rfl hd_X6_must (rm_ok (by omega) (by decide))) (hv_preV hK hI hrv rfl) rfl rfl hl.1 rfl (lv_room (by first | rfl | decide | (simp [va_rf_cat, int_cat, long_cat]; done) | (simp [va_rf_cat, int_cat, long_cat]; decide))) dX6_compared_34 (hv_fit (by first | exact hB | omega))) (fun ec q y1 H locs hx hI hc => hv_out hE hlocks hI hc (by first | exact hB | omega) hx) (fun y9 H locs hw hI => ?_)
    have hu := hB
    refine hv_aload_n (r := some a0) E.1 E.2.1 dX6_compared_37 rfl (lv_at hl 0 rfl) ?_
    obtain ⟨f12, ⟨fs, hfs, hfk⟩, hw⟩ := hw
    refine hv_get (v := va_rf f12) E hK hI ciX6 4 (Nat.le_of_ble_eq_true rfl) q281 (fun _ h => h) (Or.inl hfs) hfk dX6_compared_38 ?_
    obtain ⟨hof, hw⟩ := hw
    refine hv_castC (cn := 22) E hK hI (by decide) q973 hof dX6_compared_41 ?_
    obtain ⟨a13, ea13, hw⟩ := hw
    revert hl hw; subst ea13; intro hl hw
    obtain ⟨⟨fs16, hrv⟩, hw⟩ := hw
    have hq := hw
    clear hw
    refine hv_calli (u := ((u7 + k11))) (B1 := 0) hI (vx_runV (As := []) (rest := []) E (met_J14_charValue l G (d + 230) hq) (cwV 0 E.2.2.2.2 (lw_V q974 q975 q976 q144 q977) rfl rfl rfl hd_J14_charValue (rm_ok (by omega) (by decide))) (hv_preV hK hI hrv rfl) rfl rfl hl.1 rfl (lv_room (by first | rfl | decide | (simp [va_rf_cat, int_cat, long_cat]; done) | (simp [va_rf_cat, int_cat, long_cat]; decide))) dX6_compared_44 (hv_fit (by first | exact hu | omega))) (fun _ _ _ _ _ h => h.elim) (fun x15 y14 H locs hw hI => ?_)
    refine lv_istore_n (lv' := [(3, .int (x15)), (0, va_rf (some a0)), (1, va_rf p1), (2, .int (x4))]) E.1 E.2.1 dX6_compared_47 rfl hl (Nat.le_of_ble_eq_true rfl) (by first | rfl | decide | (simp [va_rf_cat, int_cat, long_cat]; done) | (simp [va_rf_cat, int_cat, long_cat]; decide)) (fun ls hl => ?_)
    refine hv_aload_n (r := some a0) E.1 E.2.1 dX6_compared_48 rfl (lv_at hl 1 rfl) ?_
    obtain ⟨⟨fs18, hrv⟩, hw⟩ := hw
    obtain ⟨k19, hB, hw⟩ := hw
    have hq := hw
    clear hw
    refine hv_callv (u := ((u7 + k11))) (B1 := k19) hI (vx_runV (As := []) (rest := []) E (met_X6_next l htr G (d + 223) hq) (cwV 0 E.2.2.2.2 (lw_V q314 q316 qs1 q129 q317) rfl rfl rfl hd_X6_next (rm_ok (by omega) (by decide))) (hv_preV hK hI hrv rfl) rfl rfl hl.1 rfl (lv_room (by first | rfl | decide | (simp [va_rf_cat, int_cat, long_cat]; done) | (simp [va_rf_cat, int_cat, long_cat]; decide))) dX6_compared_49 (hv_fit (by first | exact hB | omega))) (fun _ _ _ _ _ h => h.elim) (fun y17 H locs hw hI => ?_)
    have hu := hB
    refine hv_aload_n (r := some a0) E.1 E.2.1 dX6_compared_52 rfl (lv_at hl 1 rfl) ?_
    obtain ⟨hu, hw⟩ := hw
    refine hv_new (fs := [va_rf none, va_rf none, .int 0, .int 0, .int 0]) E hK hI ciX15 q1139 q1140 q159 (df13) (Nat.le_of_ble_eq_true rfl) hu dX6_compared_53 (fun H hI => ?_)
    obtain ⟨a21, ea21⟩ : ∃ w, w = y17.2 := ⟨_, rfl⟩
    obtain ⟨y20, ey20⟩ : ∃ w, w = hnew y17 (ob 13 [va_rf none, va_rf none, .int 0, .int 0, .int 0]) := ⟨_, rfl⟩
    rw [← ea21]
    rw [← ey20] at hI
    replace hw := hw a21 ea21 y20 ey20
    refine hv_dup E.1 E.2.1 dX6_compared_56 ?_
    refine hv_aload_n (r := p1) E.1 E.2.1 dX6_compared_57 rfl (lv_at hl 2 rfl) ?_
    refine lv_null E.1 E.2.1 dX6_compared_58 ?_
    refine lv_iload_n E.1 E.2.1 dX6_compared_59 rfl (lv_at hl 0 rfl) ?_
    refine hv_aload_n (r := some a0) E.1 E.2.1 dX6_compared_60 rfl (lv_at hl 1 rfl) ?_
    refine lv_iconst (v := nI 0) E.1 E.2.1 dX6_compared_61 rfl ?_
    refine lv_sipush (v := nI 999) E.1 E.2.1 dX6_compared_62 rfl ?_
    obtain ⟨⟨fs24, hrv⟩, hw⟩ := hw
    obtain ⟨k25, hB, hw⟩ := hw
    have hq := hw
    clear hw
    refine hv_calli (u := ((((u7 + k11) + k19) + 1))) (B1 := k25) hI (vx_runVX (As := [.int (nI 0), .int (nI 999)]) (rest := [.int (x15), va_rf none, va_rf p1, va_rf (some a21), va_rf (some a21), va_rf (some a0)]) E (met_X6_number l htr G (d) hq) (vx_cwVW 2 E.2.2.2.2 (lw_VW q987 q989 qs25 q129 q990) rfl rfl rfl hd_X6_number (rm_ok (by omega) (by decide))) (hv_preV hK hI hrv rfl) rfl rfl hl.1 rfl (lv_room (by first | rfl | decide | (simp [va_rf_cat, int_cat, long_cat]; done) | (simp [va_rf_cat, int_cat, long_cat]; decide))) dX6_compared_65 (hv_fit (by first | exact hB | omega))) (fun ec q y1 H locs hx hI hc => hv_out hE hlocks hI hc (by first | exact hB | omega) hx) (fun x23 y22 H locs hw hI => ?_)
    have hu := hB
    refine hv_aload_n (r := some a0) E.1 E.2.1 dX6_compared_68 rfl (lv_at hl 1 rfl) ?_
    refine lv_iconst (v := nI 0) E.1 E.2.1 dX6_compared_69 rfl ?_
    obtain ⟨⟨fs28, hrv⟩, hw⟩ := hw
    have hq := hw
    clear hw
    refine hv_calli (u := (((((u7 + k11) + k19) + 1) + k25))) (B1 := 0) hI (vx_runV (As := [.int (nI 0)]) (rest := [.int (x23), .int (x15), va_rf none, va_rf p1, va_rf (some a21), va_rf (some a21), va_rf (some a0)]) E (met_X6_manyOf l htr G (d + 227) hq) (cwV 1 E.2.2.2.2 (lw_V q1141 q1143 qs37 q129 q1144) rfl rfl rfl hd_X6_manyOf (rm_ok (by omega) (by decide))) (hv_preV hK hI hrv rfl) rfl rfl hl.1 rfl (lv_room (by first | rfl | decide | (simp [va_rf_cat, int_cat, long_cat]; done) | (simp [va_rf_cat, int_cat, long_cat]; decide))) dX6_compared_70 (hv_fit (by first | exact hu | omega))) (fun _ _ _ _ _ h => h.elim) (fun x27 y26 H locs hw hI => ?_)
    have hq := hw
    clear hw
    refine hv_callv (u := (((((u7 + k11) + k19) + 1) + k25))) (B1 := 0) hI (vx_runI (b := a21) (As := [va_rf p1, va_rf none, .int (x15), .int (x23), .int (x27)]) (rest := [va_rf (some a21), va_rf (some a0)]) E (met_X15_init l G (d + 229) hq) (cwI 5 E.2.2.2.2 (lw_meth q1152) rfl rfl rfl (E.2.2.2.2 _ q159) (E.2.2.2.2 _ q1150) (E.2.2.2.2 _ q1151) rfl hs_X15_init (rm_ok (by omega) (by decide))) (hv_preS hK hI) rfl rfl hl.1 rfl (lv_room (by first | rfl | decide | (simp [va_rf_cat, int_cat, long_cat]; done) | (simp [va_rf_cat, int_cat, long_cat]; decide))) dX6_compared_73 (hv_fit (by first | exact hu | omega))) (fun _ _ _ _ _ h => h.elim) (fun y29 H locs hw hI => ?_)
    refine lv_iload_n E.1 E.2.1 dX6_compared_76 rfl (lv_at hl 3 rfl) ?_
    obtain ⟨⟨fs32, hrv⟩, hw⟩ := hw
    obtain ⟨k33, hB, hw⟩ := hw
    have hq := hw
    clear hw
    refine hv_callq (u := (((((u7 + k11) + k19) + 1) + k25))) (B1 := k33) hI (vx_runV (As := [va_rf (some a21), .int (x4)]) (rest := []) E (met_X6_known l htr G (d + 223) hq) (cwV 2 E.2.2.2.2 (lw_V q1180 q1182 qs38 q129 q1183) rfl rfl rfl hd_X6_known (rm_ok (by omega) (by decide))) (hv_preV hK hI hrv rfl) rfl rfl hl.1 rfl (lv_room (by first | rfl | decide | (simp [va_rf_cat, int_cat, long_cat]; done) | (simp [va_rf_cat, int_cat, long_cat]; decide))) dX6_compared_77 (hv_fit (by first | exact hB | omega))) (fun ec q y1 H locs hx hI hc => hv_out hE hlocks hI hc (by first | exact hB | omega) hx) (fun r31 y30 H locs hw hI => ?_)
    have hu := hB
    exact hv_aret (r := r31) E hr (Or.inl ⟨_, rfl⟩) hlocks hI hu hw dX6_compared_80
  obtain ⟨J34, hj52, hw⟩ := hw
  have jh35 : ∀ (y36 : HS) (u39 : Nat) (x37 : Int32) (r38 : Option Nat), J34 y36 u39 x37 r38 → ∀ (H : Heap) (locs : List Loc) (ls : Array Slot), HI G y0 y36 s H locs → lv_has ls 4 [(0, va_rf (some a0)), (1, va_rf p1), (2, .int (x37))] → W p l e (rmB (d + 231) B) s m args below meth c H locs u39 (20 * u39) (vx_MQ below (hQq G y0 post) (hX G y0 xp) args s B (20 * B) (HA y0)) (F0 m 28 ls [va_rf r38]) := by
    intro y36 u39 x37 r38 hw H locs ls hI hl
    replace hw := hj52 y36 u39 x37 r38 hw
    obtain ⟨hu, hw⟩ := hw
    refine lv_iconst (v := nI 1) E.1 E.2.1 dX6_compared_28 rfl ?_
    refine lv_goto (tgt := 33) E.1 E.2.1 dX6_compared_29 (by decide) ?_
    exact jh2 _ _ _ _ _ hw _ _ _ hI (lv_sub hl [0, 1, 2] rfl)
  refine hv_aload_n (r := some a0) E.1 E.2.1 dX6_compared_0 rfl (lv_at hl 0 rfl) ?_
  obtain ⟨f40, ⟨fs, hfs, hfk⟩, hw⟩ := hw
  refine hv_get (v := .int f40) E hK hI ciX6 3 (Nat.le_of_ble_eq_true rfl) q280 (fun _ h => h) (Or.inl hfs) hfk dX6_compared_1 ?_
  refine lv_istore_n (lv' := [(2, .int (f40)), (0, va_rf (some a0)), (1, va_rf p1)]) E.1 E.2.1 dX6_compared_4 rfl hl (Nat.le_of_ble_eq_true rfl) (by first | rfl | decide | (simp [va_rf_cat, int_cat, long_cat]; done) | (simp [va_rf_cat, int_cat, long_cat]; decide)) (fun ls hl => ?_)
  refine hv_aload_n (r := some a0) E.1 E.2.1 dX6_compared_5 rfl (lv_at hl 1 rfl) ?_
  obtain ⟨⟨fs42, hrv⟩, hw⟩ := hw
  obtain ⟨k43, hB, hw⟩ := hw
  have hq := hw
  clear hw
  refine hv_callv (u := 0) (B1 := k43) hI (vx_runV (As := []) (rest := []) E (met_X6_next l htr G (d + 223) hq) (cwV 0 E.2.2.2.2 (lw_V q314 q316 qs1 q129 q317) rfl rfl rfl hd_X6_next (rm_ok (by omega) (by decide))) (hv_preV hK hI hrv rfl) rfl rfl hl.1 rfl (lv_room (by first | rfl | decide | (simp [va_rf_cat, int_cat, long_cat]; done) | (simp [va_rf_cat, int_cat, long_cat]; decide))) dX6_compared_6 (hv_fit (by first | exact hB | omega))) (fun _ _ _ _ _ h => h.elim) (fun y41 H locs hw hI => ?_)
  have hu := hB
  refine hv_aload_n (r := some a0) E.1 E.2.1 dX6_compared_9 rfl (lv_at hl 1 rfl) ?_
  refine hv_aload_n (r := some a0) E.1 E.2.1 dX6_compared_10 rfl (lv_at hl 1 rfl) ?_
  refine lv_bipush (v := nI 60) E.1 E.2.1 dX6_compared_11 rfl ?_
  obtain ⟨⟨fs46, hrv⟩, hw⟩ := hw
  have hq := hw
  clear hw
  refine hv_callz (u := ((0 + k43))) (B1 := 0) hI (vx_runV (As := [.int (nI 60)]) (rest := [va_rf (some a0)]) E (met_X6_isSign l htr G (d + 229) hq) (cwV 1 E.2.2.2.2 (lw_V q969 q971 qs23 q129 q972) rfl rfl rfl hd_X6_isSign (rm_ok (by omega) (by decide))) (hv_preV hK hI hrv rfl) rfl rfl hl.1 rfl (lv_room (by first | rfl | decide | (simp [va_rf_cat, int_cat, long_cat]; done) | (simp [va_rf_cat, int_cat, long_cat]; decide))) dX6_compared_13 (hv_fit (by first | exact hu | omega))) (fun _ _ _ _ _ h => h.elim) (fun b45 y44 H locs hw hI => ?_)
  refine lv_if_ne (tgt := 28) E.1 E.2.1 dX6_compared_16 (by decide) (fun c47 => ?_) (fun c47 => ?_)
  · replace hw := hw.1 (bi_n c47)
    exact jh35 _ _ _ _ hw _ _ _ hI (lv_sub hl [1, 2, 0] rfl)
  · replace hw := hw.2 (bi_z c47)
    refine hv_aload_n (r := some a0) E.1 E.2.1 dX6_compared_19 rfl (lv_at hl 1 rfl) ?_
    refine lv_bipush (v := nI 62) E.1 E.2.1 dX6_compared_20 rfl ?_
    obtain ⟨⟨fs50, hrv⟩, hw⟩ := hw
    have hq := hw
    clear hw
    refine hv_callz (u := ((0 + k43))) (B1 := 0) hI (vx_runV (As := [.int (nI 62)]) (rest := [va_rf (some a0)]) E (met_X6_isSign l htr G (d + 229) hq) (cwV 1 E.2.2.2.2 (lw_V q969 q971 qs23 q129 q972) rfl rfl rfl hd_X6_isSign (rm_ok (by omega) (by decide))) (hv_preV hK hI hrv rfl) rfl rfl hl.1 rfl (lv_room (by first | rfl | decide | (simp [va_rf_cat, int_cat, long_cat]; done) | (simp [va_rf_cat, int_cat, long_cat]; decide))) dX6_compared_22 (hv_fit (by first | exact hu | omega))) (fun _ _ _ _ _ h => h.elim) (fun b49 y48 H locs hw hI => ?_)
    refine lv_if_eq (tgt := 32) E.1 E.2.1 dX6_compared_25 (by decide) (fun c51 => ?_) (fun c51 => ?_)
    · replace hw := hw.1 (bi_z c51)
      refine lv_iconst (v := nI 0) E.1 E.2.1 dX6_compared_32 rfl ?_
      exact jh2 _ _ _ _ _ hw _ _ _ hI (lv_sub hl [1, 2, 0] rfl)
    · replace hw := hw.2 (bi_n c51)
      exact jh35 _ _ _ _ hw _ _ _ hI (lv_sub hl [1, 2, 0] rfl)
/-- CaseGrouper$Reader.ofCodes(Ljava/lang/String;)LCaseGrouper$Atom; -/
def wp_X6_ofCodes (G : GP) (B : Nat) (post : Option Nat → HS → Prop) (xp : Nat → Nat → HS → Prop) (y0 : HS) (a0 : Nat) (p1 : Option Nat) : Prop := ∃ J1 : HS → Nat → Int32 → Bool → (Option Nat) → (Option Nat) → (Option Nat) → (Option Nat) → (Option Nat) → Prop, (∀ (y3 : HS) (u11 : Nat) (x4 : Int32) (b5 : Bool) (r6 : Option Nat) (r7 : Option Nat) (r8 : Option Nat) (r9 : Option Nat) (r10 : Option Nat), J1 y3 u11 x4 b5 r6 r7 r8 r9 r10 → u11 ≤ B ∧ ∃ a12, r6 = some a12 ∧ (∃ fs15, rd G y3 a12 (ob 4 fs15)) ∧ ∃ k16, u11 + k16 ≤ B ∧ wp_X6_span G k16 (fun r14 y13 => (∃ fs19, rd G y13 a0 (ob 4 fs19)) ∧ wp_X6_manyOf G (fun x18 y17 => ∃ a20, r8 = some a20 ∧ wp_X15_init G (fun y21 => ∃ a22, r10 = some a22 ∧ (∃ fs25, rd G y21 a22 (ob 4 fs25)) ∧ ∃ k26, (u11 + k16) + k26 ≤ B ∧ wp_X6_known G k26 (fun r24 y23 => post r24 y23) xp y21 a22 r9 x4) y17 a20 r7 r14 (nI 0) (nI 0) x18) y13 a0 true) xp y3 a12 b5) ∧ ((∃ fs28, rd G y0 a0 (ob 4 fs28)) ∧ ∃ k29, 0 + k29 ≤ B ∧ wp_X6_next G k29 (fun y27 => ∃ f30, fI y27 a0 4 3 f30 ∧ (0 + k29) + 1 ≤ B ∧ ∀ a32, a32 = y27.2 → ∀ y31, y31 = hnew y27 (ob 13 [va_rf none, va_rf none, .int 0, .int 0, .int 0]) → ∃ a33, p1 = some a33 ∧ (∃ fs36, rd G y31 a33 (ob 20 fs36)) ∧ wp_J5_equals G (fun b35 y34 => (b35 = true → J1 y34 (((0 + k29) + 1)) f30 false (some a0) (some a33) (some a32) (some a32) (some a0)) ∧ (b35 = false → J1 y34 (((0 + k29) + 1)) f30 true (some a0) (some a33) (some a32) (some a32) (some a0))) y31 a33 (some (gK G 6))) y0 a0)
theorem hs_X6_ofCodes : yX6_ofCodes.cls ≠ "java/lang/invoke/MethodHandle" ∧ yX6_ofCodes.cls ≠ "java/lang/invoke/VarHandle" ∧ (parseMethodDescriptor yX6_ofCodes.desc).map (fun d => d.parameters.length) = some 1 := by decide +kernel
theorem hd_X6_ofCodes : yX6_ofCodes.cls = RX6 ∧ yX6_ofCodes.cls ≠ "java/lang/invoke/MethodHandle" ∧ yX6_ofCodes.cls ≠ "java/lang/invoke/VarHandle" ∧ (parseMethodDescriptor yX6_ofCodes.desc).map (fun d => d.parameters.length) = some 1 := by decide +kernel
set_option maxHeartbeats 4000000 in
theorem met_X6_ofCodes (l : Launch) (htr : l.stackTraces = false) (G : GP) (d : Nat) {B : Nat} {post : Option Nat → HS → Prop} {xp : Nat → Nat → HS → Prop} {y0 : HS} {a0 : Nat} {p1 : Option Nat} (hw : wp_X6_ofCodes G B post xp y0 a0 p1) : vx_Met l yX6_ofCodes (ws_ yX6_ofCodes cX6_ofCodes 3 (some (.object "CaseGrouper$Atom"))) (rmB (d + 232) B) (hPc G y0 [va_rf (some a0), va_rf p1]) (hQq G y0 post) (hX G y0 xp) B (20 * B) (HA y0) := by
  unfold wp_X6_ofCodes at hw
  refine hv_met (own := RX6) (by decide) rfl (by simp [lg_sl, va_rf_cat, int_cat, long_cat]) ?_
  intro p e s m args below meth c ls E hr hlocks hnm hE hK hI hl
  replace hl : lv_has ls 3 [(0, va_rf (some a0)), (1, va_rf p1)] := by simpa [lv_args, va_rf_cat, int_cat, long_cat] using hl
  have hu : 0 ≤ B := Nat.zero_le _
  obtain ⟨J1, hj38, hw⟩ := hw
  have jh2 : ∀ (y3 : HS) (u11 : Nat) (x4 : Int32) (b5 : Bool) (r6 : Option Nat) (r7 : Option Nat) (r8 : Option Nat) (r9 : Option Nat) (r10 : Option Nat), J1 y3 u11 x4 b5 r6 r7 r8 r9 r10 → ∀ (H : Heap) (locs : List Loc) (ls : Array Slot), HI G y0 y3 s H locs → lv_has ls 3 [(0, va_rf (some a0)), (2, .int (x4))] → W p l e (rmB (d + 232) B) s m args below meth c H locs u11 (20 * u11) (vx_MQ below (hQq G y0 post) (hX G y0 xp) args s B (20 * B) (HA y0)) (F0 m 30 ls [.int (bi b5), va_rf r6, va_rf r7, va_rf r8, va_rf r9, va_rf r10]) := by
    intro y3 u11 x4 b5 r6 r7 r8 r9 r10 hw H locs ls hI hl
    replace hw := hj38 y3 u11 x4 b5 r6 r7 r8 r9 r10 hw
    obtain ⟨hu, hw⟩ := hw
    obtain ⟨a12, ea12, hw⟩ := hw
    revert hl hw; subst ea12; intro hl hw
    obtain ⟨⟨fs15, hrv⟩, hw⟩ := hw
    obtain ⟨k16, hB, hw⟩ := hw
    have hq := hw
    clear hw
    refine hv_callq (u := u11) (B1 := k16) hI (vx_runV (As := [.int (bi b5)]) (rest := [va_rf r7, va_rf r8, va_rf r9, va_rf r10]) E (met_X6_span l htr G (d) hq) (cwV 1 E.2.2.2.2 (lw_V q835 q837 qs17 q129 q838) rfl rfl rfl hd_X6_span (rm_ok (by omega) (by decide))) (hv_preV hK hI hrv rfl) rfl rfl hl.1 rfl (lv_room (by first | rfl | decide | (simp [va_rf_cat, int_cat, long_cat]; done) | (simp [va_rf_cat, int_cat, long_cat]; decide))) dX6_ofCodes_30 (hv_fit (by first | exact hB | omega))) (fun ec q y1 H locs hx hI hc => hv_out hE hlocks hI hc (by first | exact hB | omega) hx) (fun r14 y13 H locs hw hI => ?_)
    have hu := hB
    refine lv_iconst (v := nI 0) E.1 E.2.1 dX6_ofCodes_33 rfl ?_
    refine lv_iconst (v := nI 0) E.1 E.2.1 dX6_ofCodes_34 rfl ?_
    refine hv_aload_n (r := some a0) E.1 E.2.1 dX6_ofCodes_35 rfl (lv_at hl 0 rfl) ?_
    refine lv_iconst (v := nI 1) E.1 E.2.1 dX6_ofCodes_36 rfl ?_
    obtain ⟨⟨fs19, hrv⟩, hw⟩ := hw
    have hq := hw
    clear hw
    refine hv_calli (u := ((u11 + k16))) (B1 := 0) hI (vx_runV (As := [.int (nI 1)]) (rest := [.int (nI 0), .int (nI 0), va_rf r14, va_rf r7, va_rf r8, va_rf r9, va_rf r10]) E (met_X6_manyOf l htr G (d + 228) hq) (cwV 1 E.2.2.2.2 (lw_V q1141 q1143 qs37 q129 q1144) rfl rfl rfl hd_X6_manyOf (rm_ok (by omega) (by decide))) (hv_preV hK hI hrv rfl) rfl rfl hl.1 rfl (lv_room (by first | rfl | decide | (simp [va_rf_cat, int_cat, long_cat]; done) | (simp [va_rf_cat, int_cat, long_cat]; decide))) dX6_ofCodes_37 (hv_fit (by first | exact hu | omega))) (fun _ _ _ _ _ h => h.elim) (fun x18 y17 H locs hw hI => ?_)
    obtain ⟨a20, ea20, hw⟩ := hw
    revert hl hw; subst ea20; intro hl hw
    have hq := hw
    clear hw
    refine hv_callv (u := ((u11 + k16))) (B1 := 0) hI (vx_runI (b := a20) (As := [va_rf r7, va_rf r14, .int (nI 0), .int (nI 0), .int (x18)]) (rest := [va_rf r9, va_rf r10]) E (met_X15_init l G (d + 230) hq) (cwI 5 E.2.2.2.2 (lw_meth q1152) rfl rfl rfl (E.2.2.2.2 _ q159) (E.2.2.2.2 _ q1150) (E.2.2.2.2 _ q1151) rfl hs_X15_init (rm_ok (by omega) (by decide))) (hv_preS hK hI) rfl rfl hl.1 rfl (lv_room (by first | rfl | decide | (simp [va_rf_cat, int_cat, long_cat]; done) | (simp [va_rf_cat, int_cat, long_cat]; decide))) dX6_ofCodes_40 (hv_fit (by first | exact hu | omega))) (fun _ _ _ _ _ h => h.elim) (fun y21 H locs hw hI => ?_)
    refine lv_iload_n E.1 E.2.1 dX6_ofCodes_43 rfl (lv_at hl 1 rfl) ?_
    obtain ⟨a22, ea22, hw⟩ := hw
    revert hl hw; subst ea22; intro hl hw
    obtain ⟨⟨fs25, hrv⟩, hw⟩ := hw
    obtain ⟨k26, hB, hw⟩ := hw
    have hq := hw
    clear hw
    refine hv_callq (u := ((u11 + k16))) (B1 := k26) hI (vx_runV (As := [va_rf r9, .int (x4)]) (rest := []) E (met_X6_known l htr G (d + 224) hq) (cwV 2 E.2.2.2.2 (lw_V q1180 q1182 qs38 q129 q1183) rfl rfl rfl hd_X6_known (rm_ok (by omega) (by decide))) (hv_preV hK hI hrv rfl) rfl rfl hl.1 rfl (lv_room (by first | rfl | decide | (simp [va_rf_cat, int_cat, long_cat]; done) | (simp [va_rf_cat, int_cat, long_cat]; decide))) dX6_ofCodes_44 (hv_fit (by first | exact hB | omega))) (fun ec q y1 H locs hx hI hc => hv_out hE hlocks hI hc (by first | exact hB | omega) hx) (fun r24 y23 H locs hw hI => ?_)
    have hu := hB
    exact hv_aret (r := r24) E hr (Or.inl ⟨_, rfl⟩) hlocks hI hu hw dX6_ofCodes_47
  refine hv_aload_n (r := some a0) E.1 E.2.1 dX6_ofCodes_0 rfl (lv_at hl 0 rfl) ?_
  obtain ⟨⟨fs28, hrv⟩, hw⟩ := hw
  obtain ⟨k29, hB, hw⟩ := hw
  have hq := hw
  clear hw
  refine hv_callv (u := 0) (B1 := k29) hI (vx_runV (As := []) (rest := []) E (met_X6_next l htr G (d + 224) hq) (cwV 0 E.2.2.2.2 (lw_V q314 q316 qs1 q129 q317) rfl rfl rfl hd_X6_next (rm_ok (by omega) (by decide))) (hv_preV hK hI hrv rfl) rfl rfl hl.1 rfl (lv_room (by first | rfl | decide | (simp [va_rf_cat, int_cat, long_cat]; done) | (simp [va_rf_cat, int_cat, long_cat]; decide))) dX6_ofCodes_1 (hv_fit (by first | exact hB | omega))) (fun _ _ _ _ _ h => h.elim) (fun y27 H locs hw hI => ?_)
  have hu := hB
  refine hv_aload_n (r := some a0) E.1 E.2.1 dX6_ofCodes_4 rfl (lv_at hl 0 rfl) ?_
  obtain ⟨f30, ⟨fs, hfs, hfk⟩, hw⟩ := hw
  refine hv_get (v := .int f30) E hK hI ciX6 3 (Nat.le_of_ble_eq_true rfl) q280 (fun _ h => h) (Or.inl hfs) hfk dX6_ofCodes_5 ?_
  refine lv_istore_n (lv' := [(2, .int (f30)), (0, va_rf (some a0)), (1, va_rf p1)]) E.1 E.2.1 dX6_ofCodes_8 rfl hl (Nat.le_of_ble_eq_true rfl) (by first | rfl | decide | (simp [va_rf_cat, int_cat, long_cat]; done) | (simp [va_rf_cat, int_cat, long_cat]; decide)) (fun ls hl => ?_)
  refine hv_aload_n (r := some a0) E.1 E.2.1 dX6_ofCodes_9 rfl (lv_at hl 1 rfl) ?_
  obtain ⟨hu, hw⟩ := hw
  refine hv_new (fs := [va_rf none, va_rf none, .int 0, .int 0, .int 0]) E hK hI ciX15 q1139 q1140 q159 (df13) (Nat.le_of_ble_eq_true rfl) hu dX6_ofCodes_10 (fun H hI => ?_)
  obtain ⟨a32, ea32⟩ : ∃ w, w = y27.2 := ⟨_, rfl⟩
  obtain ⟨y31, ey31⟩ : ∃ w, w = hnew y27 (ob 13 [va_rf none, va_rf none, .int 0, .int 0, .int 0]) := ⟨_, rfl⟩
  rw [← ea32]
  rw [← ey31] at hI
  replace hw := hw a32 ea32 y31 ey31
  refine hv_dup E.1 E.2.1 dX6_ofCodes_13 ?_
  refine hv_aload_n (r := p1) E.1 E.2.1 dX6_ofCodes_14 rfl (lv_at hl 2 rfl) ?_
  refine hv_aload_n (r := some a0) E.1 E.2.1 dX6_ofCodes_15 rfl (lv_at hl 1 rfl) ?_
  refine hv_aload_n (r := p1) E.1 E.2.1 dX6_ofCodes_16 rfl (lv_at hl 2 rfl) ?_
  refine hv_ldcS E hK 19 6 rfl dX6_ofCodes_17 ?_
  obtain ⟨a33, ea33, hw⟩ := hw
  revert hl hw; subst ea33; intro hl hw
  obtain ⟨⟨fs36, hrv⟩, hw⟩ := hw
  have hq := hw
  clear hw
  refine hv_callz (u := (((0 + k29) + 1))) (B1 := 0) hI (vx_runV (As := [va_rf (some (gK G 6))]) (rest := [va_rf (some a0), va_rf (some a33), va_rf (some a32), va_rf (some a32), va_rf (some a0)]) E (met_J5_equals l G (d + 230) hq) (cwV 1 E.2.2.2.2 (lw_V q736 q737 q738 q132 q739) rfl rfl rfl hd_J5_equals (rm_ok (by omega) (by decide))) (hv_preV hK hI hrv rfl) rfl rfl hl.1 rfl (lv_room (by first | rfl | decide | (simp [va_rf_cat, int_cat, long_cat]; done) | (simp [va_rf_cat, int_cat, long_cat]; decide))) dX6_ofCodes_19 (hv_fit (by first | exact hu | omega))) (fun _ _ _ _ _ h => h.elim) (fun b35 y34 H locs hw hI => ?_)
  refine lv_if_ne (tgt := 29) E.1 E.2.1 dX6_ofCodes_22 (by decide) (fun c37 => ?_) (fun c37 => ?_)
  · replace hw := hw.1 (bi_n c37)
    refine lv_iconst (v := nI 0) E.1 E.2.1 dX6_ofCodes_29 rfl ?_
    exact jh2 _ _ _ _ _ _ _ _ _ hw _ _ _ hI (lv_sub hl [1, 0] rfl)
  · replace hw := hw.2 (bi_z c37)
    refine lv_iconst (v := nI 1) E.1 E.2.1 dX6_ofCodes_25 rfl ?_
    refine lv_goto (tgt := 30) E.1 E.2.1 dX6_ofCodes_26 (by decide) ?_
    exact jh2 _ _ _ _ _ _ _ _ _ hw _ _ _ hI (lv_sub hl [1, 0] rfl)
/-- CaseGrouper$Reader.opens()V -/
def wp_X6_opens (G : GP) (B : Nat) (post : HS → Prop) (xp : Nat → Nat → HS → Prop) (y0 : HS) (a0 : Nat) : Prop := ∃ J1 : HS → Nat → Bool → (Option Nat) → Prop, (∀ (y3 : HS) (u6 : Nat) (b4 : Bool) (r5 : Option Nat), J1 y3 u6 b4 r5 → u6 ≤ B ∧ ∃ a7, r5 = some a7 ∧ (∃ fs9, rd G y3 a7 (ob 4 fs9)) ∧ ∃ k10, u6 + k10 ≤ B ∧ wp_X6_must G k10 (fun y8 => ∃ f11, fI y8 a0 4 6 f11 ∧ ∃ fs13, y8.1 a0 = some (ob 4 fs13) ∧ 6 < fs13.length ∧ ∀ y12, y12 = hput y8 a0 (ob 4 (fs13.set 6 (.int (f11 + (nI 1))))) → post y12) xp y3 a7 b4 (nI 4)) ∧ (∃ f14, fI y0 a0 4 6 f14 ∧ ((nI 9) ≤ f14 → J1 y0 0 false (some a0)) ∧ (¬ (nI 9) ≤ f14 → J1 y0 0 true (some a0)))
theorem hs_X6_opens : yX6_opens.cls ≠ "java/lang/invoke/MethodHandle" ∧ yX6_opens.cls ≠ "java/lang/invoke/VarHandle" ∧ (parseMethodDescriptor yX6_opens.desc).map (fun d => d.parameters.length) = some 0 := by decide +kernel
theorem hd_X6_opens : yX6_opens.cls = RX6 ∧ yX6_opens.cls ≠ "java/lang/invoke/MethodHandle" ∧ yX6_opens.cls ≠ "java/lang/invoke/VarHandle" ∧ (parseMethodDescriptor yX6_opens.desc).map (fun d => d.parameters.length) = some 0 := by decide +kernel
set_option maxHeartbeats 4000000 in
theorem met_X6_opens (l : Launch) (htr : l.stackTraces = false) (G : GP) (d : Nat) {B : Nat} {post : HS → Prop} {xp : Nat → Nat → HS → Prop} {y0 : HS} {a0 : Nat} (hw : wp_X6_opens G B post xp y0 a0) : vx_Met l yX6_opens (ws_ yX6_opens cX6_opens 1 none) (rmB (d + 6) B) (hPc G y0 [va_rf (some a0)]) (hQv G y0 post) (hX G y0 xp) B (20 * B) (HA y0) := by
  unfold wp_X6_opens at hw
  refine hv_met (own := RX6) (by decide) rfl (Nat.le_of_ble_eq_true rfl) ?_
  intro p e s m args below meth c ls E hr hlocks hnm hE hK hI hl
  replace hl : lv_has ls 1 [(0, va_rf (some a0))] := hl
  have hu : 0 ≤ B := Nat.zero_le _
  obtain ⟨J1, hj16, hw⟩ := hw
  have jh2 : ∀ (y3 : HS) (u6 : Nat) (b4 : Bool) (r5 : Option Nat), J1 y3 u6 b4 r5 → ∀ (H : Heap) (locs : List Loc) (ls : Array Slot), HI G y0 y3 s H locs → lv_has ls 1 [(0, va_rf (some a0))] → W p l e (rmB (d + 6) B) s m args below meth c H locs u6 (20 * u6) (vx_MQ below (hQv G y0 post) (hX G y0 xp) args s B (20 * B) (HA y0)) (F0 m 15 ls [.int (bi b4), va_rf r5]) := by
    intro y3 u6 b4 r5 hw H locs ls hI hl
    replace hw := hj16 y3 u6 b4 r5 hw
    obtain ⟨hu, hw⟩ := hw
    refine lv_iconst (v := nI 4) E.1 E.2.1 dX6_opens_15 rfl ?_
    obtain ⟨a7, ea7, hw⟩ := hw
    revert hl hw; subst ea7; intro hl hw
    obtain ⟨⟨fs9, hrv⟩, hw⟩ := hw
    obtain ⟨k10, hB, hw⟩ := hw
    have hq := hw
    clear hw
    refine hv_callv (u := u6) (B1 := k10) hI (vx_runV (As := [.int (bi b4), .int (nI 4)]) (rest := []) E (met_X6_must l htr G (d) hq) (cwV 2 E.2.2.2.2 (lw_V q594 q596 qs9 q129 q597) rfl rfl rfl hd_X6_must (rm_ok (by omega) (by decide))) (hv_preV hK hI hrv rfl) rfl rfl hl.1 rfl (lv_room (by first | rfl | decide | (simp [va_rf_cat, int_cat, long_cat]; done) | (simp [va_rf_cat, int_cat, long_cat]; decide))) dX6_opens_16 (hv_fit (by first | exact hB | omega))) (fun ec q y1 H locs hx hI hc => hv_out hE hlocks hI hc (by first | exact hB | omega) hx) (fun y8 H locs hw hI => ?_)
    have hu := hB
    refine hv_aload_n (r := some a0) E.1 E.2.1 dX6_opens_19 rfl (lv_at hl 0 rfl) ?_
    refine hv_dup E.1 E.2.1 dX6_opens_20 ?_
    obtain ⟨f11, ⟨fs, hfs, hfk⟩, hw⟩ := hw
    refine hv_get (v := .int f11) E hK hI ciX6 6 (Nat.le_of_ble_eq_true rfl) q283 (fun _ h => h) (Or.inl hfs) hfk dX6_opens_21 ?_
    refine lv_iconst (v := nI 1) E.1 E.2.1 dX6_opens_24 rfl ?_
    refine lv_iadd E.1 E.2.1 dX6_opens_25 ?_
    obtain ⟨fs13, hfs, hln, hw⟩ := hw
    refine hv_put (v := .int (f11 + (nI 1))) E hK hI ciX6 6 (Nat.le_of_ble_eq_true rfl) q283 (fun _ h => h) rfl rfl rfl hfs hln dX6_opens_26 (fun H locs hI => ?_)
    obtain ⟨y12, ey12⟩ : ∃ w, w = hput y8 a0 (ob 4 (fs13.set 6 (.int (f11 + (nI 1))))) := ⟨_, rfl⟩
    rw [← ey12] at hI
    replace hw := hw y12 ey12
    exact hv_vret E hr hlocks hI hu hw dX6_opens_29
  refine hv_aload_n (r := some a0) E.1 E.2.1 dX6_opens_0 rfl (lv_at hl 0 rfl) ?_
  refine hv_aload_n (r := some a0) E.1 E.2.1 dX6_opens_1 rfl (lv_at hl 0 rfl) ?_
  obtain ⟨f14, ⟨fs, hfs, hfk⟩, hw⟩ := hw
  refine hv_get (v := .int f14) E hK hI ciX6 6 (Nat.le_of_ble_eq_true rfl) q283 (fun _ h => h) (Or.inl hfs) hfk dX6_opens_2 ?_
  refine lv_bipush (v := nI 9) E.1 E.2.1 dX6_opens_5 rfl ?_
  refine lv_icmp_ge (tgt := 14) E.1 E.2.1 dX6_opens_7 (by decide) (fun c15 => ?_) (fun c15 => ?_)
  · replace hw := hw.1 (c15)
    refine lv_iconst (v := nI 0) E.1 E.2.1 dX6_opens_14 rfl ?_
    exact jh2 _ _ _ _ hw _ _ _ hI (lv_sub hl [0] rfl)
  · replace hw := hw.2 (c15)
    refine lv_iconst (v := nI 1) E.1 E.2.1 dX6_opens_10 rfl ?_
    refine lv_goto (tgt := 15) E.1 E.2.1 dX6_opens_11 (by decide) ?_
    exact jh2 _ _ _ _ hw _ _ _ hI (lv_sub hl [0] rfl)
/-- CaseGrouper$Reader.cond()Ljava/lang/Object; -/
def wb_X6_cond (G : GP) (rc : Nat → Nat → (Option Nat → HS → Prop) → (Nat → Nat → HS → Prop) → HS → Nat → (Option Nat) → Prop) (B : Nat) (post : Option Nat → HS → Prop) (xp : Nat → Nat → HS → Prop) (y0 : HS) (a0 : Nat) : Prop := (∃ fs3, rd G y0 a0 (ob 4 fs3)) ∧ ∃ k4, 0 + k4 ≤ B ∧ rc 1 k4 (fun r2 y1 => post r2 y1) xp y0 a0 (some (gK G 13))
theorem hs_X6_cond : yX6_cond.cls ≠ "java/lang/invoke/MethodHandle" ∧ yX6_cond.cls ≠ "java/lang/invoke/VarHandle" ∧ (parseMethodDescriptor yX6_cond.desc).map (fun d => d.parameters.length) = some 0 := by decide +kernel
theorem hd_X6_cond : yX6_cond.cls = RX6 ∧ yX6_cond.cls ≠ "java/lang/invoke/MethodHandle" ∧ yX6_cond.cls ≠ "java/lang/invoke/VarHandle" ∧ (parseMethodDescriptor yX6_cond.desc).map (fun d => d.parameters.length) = some 0 := by decide +kernel
/-- CaseGrouper$Reader.joined(Ljava/lang/String;)Ljava/lang/Object; -/
def wb_X6_joined (G : GP) (rc : Nat → Nat → (Option Nat → HS → Prop) → (Nat → Nat → HS → Prop) → HS → Nat → (Option Nat) → Prop) (B : Nat) (post : Option Nat → HS → Prop) (xp : Nat → Nat → HS → Prop) (y0 : HS) (a0 : Nat) (p1 : Option Nat) : Prop := ∃ J1 : HS → Nat → Bool → (Option Nat) → Prop, (∀ (y3 : HS) (u6 : Nat) (b4 : Bool) (r5 : Option Nat), J1 y3 u6 b4 r5 → u6 ≤ B ∧ (∃ fs9, rd G y3 a0 (ob 4 fs9)) ∧ wp_X6_isWord G (fun b8 y7 => (b8 = true → u6 + 1 ≤ B ∧ ∀ a12, a12 = y7.2 → ∀ y11, y11 = hnew y7 (ob 12 [va_rf none, va_rf none]) → ∃ k14, (u6 + 1) + k14 ≤ B ∧ wp_X14_init G k14 (fun y13 => ∃ I15 : Nat → HS → Nat → Prop, (∃ n21, I15 n21 y13 (((u6 + 1) + k14)) ) ∧ ∀ (n16 : Nat) (y17 : HS) (u20 : Nat), I15 n16 y17 u20 → u20 ≤ B ∧ (∃ fs24, rd G y17 a0 (ob 4 fs24)) ∧ wp_X6_isWord G (fun b23 y22 => (b23 = false → post (some a12) y22) ∧ (b23 = true → ∃ J26 : HS → Nat → (Option Nat) → (Option Nat) → Prop, (∀ (y28 : HS) (u31 : Nat) (r29 : Option Nat) (r30 : Option Nat), J26 y28 u31 r29 r30 → u31 ≤ B ∧ ∃ a32, r30 = some a32 ∧ (∃ fs35, rd G y28 a32 (ob 18 fs35)) ∧ ∃ k36, u31 + k36 ≤ B ∧ wp_J2_add G k36 (fun b34 y33 => ∃ n37, n37 < n16 ∧ I15 n37 y33 ((u31 + k36)) ) y28 a32 r29) ∧ ((∃ fs39, rd G y22 a0 (ob 4 fs39)) ∧ ∃ k40, u20 + k40 ≤ B ∧ wp_X6_next G k40 (fun y38 => ∃ f41, fR y38 a12 12 1 f41 ∧ (b4 = false → (∃ fs45, rd G y38 a0 (ob 4 fs45)) ∧ ∃ k46, (u20 + k40) + k46 ≤ B ∧ rc 2 k46 (fun r44 y43 => J26 y43 (((u20 + k40) + k46)) r44 f41) xp y38 a0 none) ∧ (b4 = true → (∃ fs49, rd G y38 a0 (ob 4 fs49)) ∧ ∃ k50, (u20 + k40) + k50 ≤ B ∧ rc 1 k50 (fun r48 y47 => J26 y47 (((u20 + k40) + k50)) r48 f41) xp y38 a0 (some (gK G 1)))) y22 a0))) y17 a0 p1) y11 a12 p1 r5) ∧ (b8 = false → post r5 y7)) y3 a0 p1) ∧ (∃ a54, p1 = some a54 ∧ (∃ fs57, rd G y0 a54 (ob 20 fs57)) ∧ wp_J5_equals G (fun b56 y55 => (b56 = false → (∃ fs61, rd G y55 a0 (ob 4 fs61)) ∧ ∃ k62, 0 + k62 ≤ B ∧ rc 2 k62 (fun r60 y59 => J1 y59 ((0 + k62)) b56 r60) xp y55 a0 none) ∧ (b56 = true → (∃ fs65, rd G y55 a0 (ob 4 fs65)) ∧ ∃ k66, 0 + k66 ≤ B ∧ rc 1 k66 (fun r64 y63 => J1 y63 ((0 + k66)) b56 r64) xp y55 a0 (some (gK G 1)))) y0 a54 (some (gK G 13)))
theorem hs_X6_joined : yX6_joined.cls ≠ "java/lang/invoke/MethodHandle" ∧ yX6_joined.cls ≠ "java/lang/invoke/VarHandle" ∧ (parseMethodDescriptor yX6_joined.desc).map (fun d => d.parameters.length) = some 1 := by decide +kernel
theorem hd_X6_joined : yX6_joined.cls = RX6 ∧ yX6_joined.cls ≠ "java/lang/invoke/MethodHandle" ∧ yX6_joined.cls ≠ "java/lang/invoke/VarHandle" ∧ (parseMethodDescriptor yX6_joined.desc).map (fun d => d.parameters.length) = some 1 := by decide +kernel
/-- CaseGrouper$Reader.one()Ljava/lang/Object; -/
def wb_X6_one (G : GP) (rc : Nat → Nat → (Option Nat → HS → Prop) → (Nat → Nat → HS → Prop) → HS → Nat → (Option Nat) → Prop) (B : Nat) (post : Option Nat → HS → Prop) (xp : Nat → Nat → HS → Prop) (y0 : HS) (a0 : Nat) : Prop := (∃ fs3, rd G y0 a0 (ob 4 fs3)) ∧ wp_X6_isSign G (fun b2 y1 => (b2 = false → ∃ J5 : HS → Nat → (Option Nat) → Int32 → Prop, (∀ (y7 : HS) (u10 : Nat) (r8 : Option Nat) (x9 : Int32), J5 y7 u10 r8 x9 → u10 ≤ B ∧ (x9 = nI 0 → (∃ fs14, rd G y7 a0 (ob 4 fs14)) ∧ ∃ k15, u10 + k15 ≤ B ∧ rc 3 k15 (fun r13 y12 => post r13 y12) xp y7 a0 none) ∧ (¬ x9 = nI 0 → (x9 = nI 1 → (∃ fs19, rd G y7 a0 (ob 4 fs19)) ∧ ∃ k20, u10 + k20 ≤ B ∧ wp_X6_ofCodes G k20 (fun r18 y17 => post r18 y17) xp y7 a0 r8) ∧ (¬ x9 = nI 1 → (x9 = nI 2 → (∃ fs24, rd G y7 a0 (ob 4 fs24)) ∧ ∃ k25, u10 + k25 ≤ B ∧ wp_X6_ofCodes G k25 (fun r23 y22 => post r23 y22) xp y7 a0 r8) ∧ (¬ x9 = nI 2 → (x9 = nI 3 → (∃ fs29, rd G y7 a0 (ob 4 fs29)) ∧ ∃ k30, u10 + k30 ≤ B ∧ wp_X6_ofCodes G k30 (fun r28 y27 => post r28 y27) xp y7 a0 r8) ∧ (¬ x9 = nI 3 → (x9 = nI 4 → (∃ fs34, rd G y7 a0 (ob 4 fs34)) ∧ ∃ k35, u10 + k35 ≤ B ∧ wp_X6_compared G k35 (fun r33 y32 => post r33 y32) xp y7 a0 r8) ∧ (¬ x9 = nI 4 → (x9 = nI 5 → (∃ fs39, rd G y7 a0 (ob 4 fs39)) ∧ ∃ k40, u10 + k40 ≤ B ∧ wp_X6_compared G k40 (fun r38 y37 => post r38 y37) xp y7 a0 r8) ∧ (¬ x9 = nI 5 → (x9 = nI 6 → (∃ fs44, rd G y7 a0 (ob 4 fs44)) ∧ ∃ k45, u10 + k45 ≤ B ∧ wp_X6_compared G k45 (fun r43 y42 => post r43 y42) xp y7 a0 r8) ∧ (¬ x9 = nI 6 → (x9 = nI 7 → (∃ fs49, rd G y7 a0 (ob 4 fs49)) ∧ ∃ k50, u10 + k50 ≤ B ∧ wp_X6_compared G k50 (fun r48 y47 => post r48 y47) xp y7 a0 r8) ∧ (¬ x9 = nI 7 → (∃ fs53, rd G y7 a0 (ob 4 fs53)) ∧ ∃ k54, u10 + k54 ≤ B ∧ wp_X6_wrong G k54 (fun r52 y51 => ∃ a55, r52 = some a55 ∧ ∃ fs56, y51.1 a55 = some (ob 6 fs56) ∧ xp 6 a55 y51) y7 a0 (nI 1)))))))))) ∧ (∃ f57, fR y1 a0 4 4 f57 ∧ ∃ b58, isIn G y1 f57 20 b58 ∧ (∃ fs60, rd G y1 a0 (ob 4 fs60)) ∧ ∃ k61, 0 + k61 ≤ B ∧ wp_X6_must G k61 (fun y59 => ∃ f62, fR y59 a0 4 4 f62 ∧ isOf G y59 f62 20 ∧ ∃ a63, f62 = some a63 ∧ (∃ fs66, rd G y59 a63 (ob 20 fs66)) ∧ wp_J5_hashCode G (fun x65 y64 => (x65 = nI 96511 → (∃ fs70, rd G y64 a63 (ob 20 fs70)) ∧ wp_J5_equals G (fun b69 y68 => (b69 = false → J5 y68 ((0 + k61)) (some a63) ((-1))) ∧ (b69 = true → J5 y68 ((0 + k61)) (some a63) (nI 4))) y64 a63 (some (gK G 0))) ∧ (¬ x65 = nI 96511 → (x65 = nI 99455 → (∃ fs75, rd G y64 a63 (ob 20 fs75)) ∧ wp_J5_equals G (fun b74 y73 => (b74 = false → J5 y73 ((0 + k61)) (some a63) ((-1))) ∧ (b74 = true → J5 y73 ((0 + k61)) (some a63) (nI 3))) y64 a63 (some (gK G 6))) ∧ (¬ x65 = nI 99455 → (x65 = nI 103066 → (∃ fs80, rd G y64 a63 (ob 20 fs80)) ∧ wp_J5_equals G (fun b79 y78 => (b79 = false → J5 y78 ((0 + k61)) (some a63) ((-1))) ∧ (b79 = true → J5 y78 ((0 + k61)) (some a63) (nI 1))) y64 a63 (some (gK G 8))) ∧ (¬ x65 = nI 103066 → (x65 = nI 109267 → (∃ fs85, rd G y64 a63 (ob 20 fs85)) ∧ wp_J5_equals G (fun b84 y83 => (b84 = false → J5 y83 ((0 + k61)) (some a63) ((-1))) ∧ (b84 = true → J5 y83 ((0 + k61)) (some a63) (nI 0))) y64 a63 (some (gK G 12))) ∧ (¬ x65 = nI 109267 → (x65 = nI 115029 → (∃ fs90, rd G y64 a63 (ob 20 fs90)) ∧ wp_J5_equals G (fun b89 y88 => (b89 = false → J5 y88 ((0 + k61)) (some a63) ((-1))) ∧ (b89 = true → J5 y88 ((0 + k61)) (some a63) (nI 7))) y64 a63 (some (gK G 18))) ∧ (¬ x65 = nI 115029 → (x65 = nI 3076183 → (∃ fs95, rd G y64 a63 (ob 20 fs95)) ∧ wp_J5_equals G (fun b94 y93 => (b94 = false → J5 y93 ((0 + k61)) (some a63) ((-1))) ∧ (b94 = true → J5 y93 ((0 + k61)) (some a63) (nI 5))) y64 a63 (some (gK G 5))) ∧ (¬ x65 = nI 3076183 → (x65 = nI 3343801 → (∃ fs100, rd G y64 a63 (ob 20 fs100)) ∧ wp_J5_equals G (fun b99 y98 => (b99 = false → J5 y98 ((0 + k61)) (some a63) ((-1))) ∧ (b99 = true → J5 y98 ((0 + k61)) (some a63) (nI 2))) y64 a63 (some (gK G 11))) ∧ (¬ x65 = nI 3343801 → (x65 = nI 102865796 → (∃ fs105, rd G y64 a63 (ob 20 fs105)) ∧ wp_J5_equals G (fun b104 y103 => (b104 = false → J5 y103 ((0 + k61)) (some a63) ((-1))) ∧ (b104 = true → J5 y103 ((0 + k61)) (some a63) (nI 6))) y64 a63 (some (gK G 10))) ∧ (¬ x65 = nI 102865796 → J5 y64 ((0 + k61)) (some a63) ((-1))))))))))) y59 a63) xp y1 a0 b58 (nI 1))) ∧ (b2 = true → (∃ fs109, rd G y1 a0 (ob 4 fs109)) ∧ ∃ k110, 0 + k110 ≤ B ∧ wp_X6_opens G k110 (fun y108 => (∃ fs112, rd G y108 a0 (ob 4 fs112)) ∧ ∃ k113, (0 + k110) + k113 ≤ B ∧ wp_X6_next G k113 (fun y111 => (∃ fs116, rd G y111 a0 (ob 4 fs116)) ∧ ∃ k117, ((0 + k110) + k113) + k117 ≤ B ∧ rc 0 k117 (fun r115 y114 => (∃ fs119, rd G y114 a0 (ob 4 fs119)) ∧ ∃ k120, (((0 + k110) + k113) + k117) + k120 ≤ B ∧ wp_X6_sign G k120 (fun y118 => ∃ f121, fI y118 a0 4 6 f121 ∧ ∃ fs123, y118.1 a0 = some (ob 4 fs123) ∧ 6 < fs123.length ∧ ∀ y122, y122 = hput y118 a0 (ob 4 (fs123.set 6 (.int (f121 - (nI 1))))) → post r115 y122) xp y114 a0 (nI 41)) xp y111 a0 none) y108 a0) xp y1 a0)) y0 a0 (nI 40)
theorem hs_X6_one : yX6_one.cls ≠ "java/lang/invoke/MethodHandle" ∧ yX6_one.cls ≠ "java/lang/invoke/VarHandle" ∧ (parseMethodDescriptor yX6_one.desc).map (fun d => d.parameters.length) = some 0 := by decide +kernel
theorem hd_X6_one : yX6_one.cls = RX6 ∧ yX6_one.cls ≠ "java/lang/invoke/MethodHandle" ∧ yX6_one.cls ≠ "java/lang/invoke/VarHandle" ∧ (parseMethodDescriptor yX6_one.desc).map (fun d => d.parameters.length) = some 0 := by decide +kernel
/-- CaseGrouper$Reader.not()Ljava/lang/Object; -/
def wb_X6_not (G : GP) (rc : Nat → Nat → (Option Nat → HS → Prop) → (Nat → Nat → HS → Prop) → HS → Nat → (Option Nat) → Prop) (B : Nat) (post : Option Nat → HS → Prop) (xp : Nat → Nat → HS → Prop) (y0 : HS) (a0 : Nat) : Prop := (∃ fs2, rd G y0 a0 (ob 4 fs2)) ∧ ∃ k3, 0 + k3 ≤ B ∧ wp_X6_opens G k3 (fun y1 => (∃ fs5, rd G y1 a0 (ob 4 fs5)) ∧ ∃ k6, (0 + k3) + k6 ≤ B ∧ wp_X6_next G k6 (fun y4 => ((0 + k3) + k6) + 1 ≤ B ∧ ∀ a8, a8 = y4.2 → ∀ y7, y7 = hnew y4 (ob 12 [va_rf none, va_rf none]) → (∃ fs11, rd G y7 a0 (ob 4 fs11)) ∧ ∃ k12, (((0 + k3) + k6) + 1) + k12 ≤ B ∧ rc 2 k12 (fun r10 y9 => ∃ k14, ((((0 + k3) + k6) + 1) + k12) + k14 ≤ B ∧ wp_X14_init G k14 (fun y13 => ∃ f15, fI y13 a0 4 6 f15 ∧ ∃ fs17, y13.1 a0 = some (ob 4 fs17) ∧ 6 < fs17.length ∧ ∀ y16, y16 = hput y13 a0 (ob 4 (fs17.set 6 (.int (f15 - (nI 1))))) → post (some a8) y16) y9 a8 (some (gK G 12)) r10) xp y7 a0 none) y1 a0) xp y0 a0
theorem hs_X6_not : yX6_not.cls ≠ "java/lang/invoke/MethodHandle" ∧ yX6_not.cls ≠ "java/lang/invoke/VarHandle" ∧ (parseMethodDescriptor yX6_not.desc).map (fun d => d.parameters.length) = some 0 := by decide +kernel
theorem hd_X6_not : yX6_not.cls = RX6 ∧ yX6_not.cls ≠ "java/lang/invoke/MethodHandle" ∧ yX6_not.cls ≠ "java/lang/invoke/VarHandle" ∧ (parseMethodDescriptor yX6_not.desc).map (fun d => d.parameters.length) = some 0 := by decide +kernel
def d_c4 : Nat := 41
def wp_c4 (G : GP) : Nat → Nat → Nat → (Option Nat → HS → Prop) → (Nat → Nat → HS → Prop) → HS → Nat → (Option Nat) → Prop
  | 0 => fun _ => fun _ _ _ _ _ _ => False
  | k + 1 => fun t => if t = 0 then (fun z0 z1 z2 z3 z4 _ => wb_X6_cond G (wp_c4 G k) z0 z1 z2 z3 z4) else if t = 1 then wb_X6_joined G (wp_c4 G k) else if t = 2 then (fun z0 z1 z2 z3 z4 _ => wb_X6_one G (wp_c4 G k) z0 z1 z2 z3 z4) else (fun z0 z1 z2 z3 z4 _ => wb_X6_not G (wp_c4 G k) z0 z1 z2 z3 z4)
set_option maxHeartbeats 4000000 in
theorem met_c4 (l : Launch) (htr : l.stackTraces = false) (G : GP) (d : Nat) : ∀ (k : Nat), (∀ {B : Nat} {post : Option Nat → HS → Prop} {xp : Nat → Nat → HS → Prop} {y0 : HS} {a0 : Nat}, wp_c4 G k 0 B post xp y0 a0 none → vx_Met l yX6_cond (ws_ yX6_cond cX6_cond 1 (some (.object "java/lang/Object"))) (rmB (d + k + 233) B) (hPc G y0 [va_rf (some a0)]) (hQq G y0 post) (hX G y0 xp) B (20 * B) (HA y0)) ∧ (∀ {B : Nat} {post : Option Nat → HS → Prop} {xp : Nat → Nat → HS → Prop} {y0 : HS} {a0 : Nat} {p1 : Option Nat}, wp_c4 G k 1 B post xp y0 a0 p1 → vx_Met l yX6_joined (ws_ yX6_joined cX6_joined 5 (some (.object "java/lang/Object"))) (rmB (d + k + 233) B) (hPc G y0 [va_rf (some a0), va_rf p1]) (hQq G y0 post) (hX G y0 xp) B (20 * B) (HA y0)) ∧ (∀ {B : Nat} {post : Option Nat → HS → Prop} {xp : Nat → Nat → HS → Prop} {y0 : HS} {a0 : Nat}, wp_c4 G k 2 B post xp y0 a0 none → vx_Met l yX6_one (ws_ yX6_one cX6_one 4 (some (.object "java/lang/Object"))) (rmB (d + k + 233) B) (hPc G y0 [va_rf (some a0)]) (hQq G y0 post) (hX G y0 xp) B (20 * B) (HA y0)) ∧ (∀ {B : Nat} {post : Option Nat → HS → Prop} {xp : Nat → Nat → HS → Prop} {y0 : HS} {a0 : Nat}, wp_c4 G k 3 B post xp y0 a0 none → vx_Met l yX6_not (ws_ yX6_not cX6_not 2 (some (.object "java/lang/Object"))) (rmB (d + k + 233) B) (hPc G y0 [va_rf (some a0)]) (hQq G y0 post) (hX G y0 xp) B (20 * B) (HA y0)) := by
  intro k
  induction k with
  | zero => exact ⟨fun hw => hw.elim, fun hw => hw.elim, fun hw => hw.elim, fun hw => hw.elim⟩
  | succ k ih =>
    refine ⟨?_, ?_, ?_, ?_⟩
    · intro B post xp y0 a0 hw
      replace hw : wb_X6_cond G (wp_c4 G k) B post xp y0 a0 := hw
      unfold wb_X6_cond at hw
      refine hv_met (own := RX6) (by decide) rfl (Nat.le_of_ble_eq_true rfl) ?_
      intro p e s m args below meth c ls E hr hlocks hnm hE hK hI hl
      replace hl : lv_has ls 1 [(0, va_rf (some a0))] := hl
      have hu : 0 ≤ B := Nat.zero_le _
      refine hv_aload_n (r := some a0) E.1 E.2.1 dX6_cond_0 rfl (lv_at hl 0 rfl) ?_
      refine hv_ldcS E hK 14 13 rfl dX6_cond_1 ?_
      obtain ⟨⟨fs3, hrv⟩, hw⟩ := hw
      obtain ⟨k4, hB, hw⟩ := hw
      have hq := hw
      clear hw
      refine hv_callq (u := 0) (B1 := k4) hI (vx_runV (As := [va_rf (some (gK G 13))]) (rest := []) E (ih.2.1 hq) (cwV 1 E.2.2.2.2 (lw_V q1104 q1106 qs33 q129 q1107) rfl rfl rfl hd_X6_joined (rm_ok (by omega) (by decide))) (hv_preV hK hI hrv rfl) rfl rfl hl.1 rfl (lv_room (by first | rfl | decide | (simp [va_rf_cat, int_cat, long_cat]; done) | (simp [va_rf_cat, int_cat, long_cat]; decide))) dX6_cond_3 (hv_fit (by first | exact hB | omega))) (fun ec q y1 H locs hx hI hc => hv_out hE hlocks hI hc (by first | exact hB | omega) hx) (fun r2 y1 H locs hw hI => ?_)
      have hu := hB
      exact hv_aret (r := r2) E hr (Or.inl ⟨_, rfl⟩) hlocks hI hu hw dX6_cond_6
    · intro B post xp y0 a0 p1 hw
      replace hw : wb_X6_joined G (wp_c4 G k) B post xp y0 a0 p1 := hw
      unfold wb_X6_joined at hw
      refine hv_met (own := RX6) (by decide) rfl (by simp [lg_sl, va_rf_cat, int_cat, long_cat]) ?_
      intro p e s m args below meth c ls E hr hlocks hnm hE hK hI hl
      replace hl : lv_has ls 5 [(0, va_rf (some a0)), (1, va_rf p1)] := by simpa [lv_args, va_rf_cat, int_cat, long_cat] using hl
      have hu : 0 ≤ B := Nat.zero_le _
      obtain ⟨J1, hj67, hw⟩ := hw
      have jh2 : ∀ (y3 : HS) (u6 : Nat) (b4 : Bool) (r5 : Option Nat), J1 y3 u6 b4 r5 → ∀ (H : Heap) (locs : List Loc) (ls : Array Slot), HI G y0 y3 s H locs → lv_has ls 5 [(0, va_rf (some a0)), (1, va_rf p1), (2, .int (bi b4))] → W p l e (rmB (d + (k + 1) + 233) B) s m args below meth c H locs u6 (20 * u6) (vx_MQ below (hQq G y0 post) (hX G y0 xp) args s B (20 * B) (HA y0)) (F0 m 24 ls [va_rf r5]) := by
        intro y3 u6 b4 r5 hw H locs ls hI hl
        replace hw := hj67 y3 u6 b4 r5 hw
        obtain ⟨hu, hw⟩ := hw
        refine hv_astore_n (r := r5) (lv' := [(3, va_rf r5), (0, va_rf (some a0)), (1, va_rf p1), (2, .int (bi b4))]) E.1 E.2.1 dX6_joined_24 rfl hl (Nat.le_of_ble_eq_true rfl) (by first | rfl | decide | (simp [va_rf_cat, int_cat, long_cat]; done) | (simp [va_rf_cat, int_cat, long_cat]; decide)) (fun ls hl => ?_)
        refine hv_aload_n (r := some a0) E.1 E.2.1 dX6_joined_25 rfl (lv_at hl 1 rfl) ?_
        refine hv_aload_n (r := p1) E.1 E.2.1 dX6_joined_26 rfl (lv_at hl 2 rfl) ?_
        obtain ⟨⟨fs9, hrv⟩, hw⟩ := hw
        have hq := hw
        clear hw
        refine hv_callz (u := u6) (B1 := 0) hI (vx_runV (As := [va_rf p1]) (rest := []) E (met_X6_isWord l htr G (d + k + 231) hq) (cwV 1 E.2.2.2.2 (lw_V q892 q894 qs19 q129 q895) rfl rfl rfl hd_X6_isWord (rm_ok (by omega) (by decide))) (hv_preV hK hI hrv rfl) rfl rfl hl.1 rfl (lv_room (by first | rfl | decide | (simp [va_rf_cat, int_cat, long_cat]; done) | (simp [va_rf_cat, int_cat, long_cat]; decide))) dX6_joined_27 (hv_fit (by first | exact hu | omega))) (fun _ _ _ _ _ h => h.elim) (fun b8 y7 H locs hw hI => ?_)
        refine lv_if_ne (tgt := 35) E.1 E.2.1 dX6_joined_30 (by decide) (fun c10 => ?_) (fun c10 => ?_)
        · replace hw := hw.1 (bi_n c10)
          obtain ⟨hu, hw⟩ := hw
          refine hv_new (fs := [va_rf none, va_rf none]) E hK hI ciX14 q1116 q1117 q158 (df12) (Nat.le_of_ble_eq_true rfl) hu dX6_joined_35 (fun H hI => ?_)
          obtain ⟨a12, ea12⟩ : ∃ w, w = y7.2 := ⟨_, rfl⟩
          obtain ⟨y11, ey11⟩ : ∃ w, w = hnew y7 (ob 12 [va_rf none, va_rf none]) := ⟨_, rfl⟩
          rw [← ea12]
          rw [← ey11] at hI
          replace hw := hw a12 ea12 y11 ey11
          refine hv_dup E.1 E.2.1 dX6_joined_38 ?_
          refine hv_aload_n (r := p1) E.1 E.2.1 dX6_joined_39 rfl (lv_at hl 2 rfl) ?_
          refine hv_aload_n (r := r5) E.1 E.2.1 dX6_joined_40 rfl (lv_at hl 0 rfl) ?_
          obtain ⟨k14, hB, hw⟩ := hw
          have hq := hw
          clear hw
          refine hv_callv (u := ((u6 + 1))) (B1 := k14) hI (vx_runI (b := a12) (As := [va_rf p1, va_rf r5]) (rest := [va_rf (some a12)]) E (met_X14_init l G (d + k + 226) hq) (cwI 2 E.2.2.2.2 (lw_meth q1120) rfl rfl rfl (E.2.2.2.2 _ q158) (E.2.2.2.2 _ q1118) (E.2.2.2.2 _ q1119) rfl hs_X14_init (rm_ok (by omega) (by decide))) (hv_preS hK hI) rfl rfl hl.1 rfl (lv_room (by first | rfl | decide | (simp [va_rf_cat, int_cat, long_cat]; done) | (simp [va_rf_cat, int_cat, long_cat]; decide))) dX6_joined_41 (hv_fit (by first | exact hB | omega))) (fun _ _ _ _ _ h => h.elim) (fun y13 H locs hw hI => ?_)
          have hu := hB
          refine hv_astore (r := some a12) (lv' := [(4, va_rf (some a12)), (3, va_rf r5), (0, va_rf (some a0)), (1, va_rf p1), (2, .int (bi b4))]) E.1 E.2.1 dX6_joined_44 hl (Nat.le_of_ble_eq_true rfl) (by first | rfl | decide | (simp [va_rf_cat, int_cat, long_cat]; done) | (simp [va_rf_cat, int_cat, long_cat]; decide)) (fun ls hl => ?_)
          obtain ⟨I15, ⟨n21, hi53⟩, hb52⟩ := hw
          have L19 : ∀ (n16 : Nat) (y17 : HS) (u20 : Nat), I15 n16 y17 u20 → ∀ (H : Heap) (locs : List Loc) (ls : Array Slot), HI G y0 y17 s H locs → lv_has ls 5 [(0, va_rf (some a0)), (1, va_rf p1), (2, .int (bi b4)), (4, va_rf (some a12))] → W p l e (rmB (d + (k + 1) + 233) B) s m args below meth c H locs u20 (20 * u20) (vx_MQ below (hQq G y0 post) (hX G y0 xp) args s B (20 * B) (HA y0)) (F0 m 46 ls []) := by
            intro n16
            induction n16 using Nat.strongRecOn with
            | _ n16 ih18 =>
              intro y17 u20 hw H locs ls hI hl
              replace hw := hb52 n16 y17 u20 hw
              obtain ⟨hu, hw⟩ := hw
              refine hv_aload_n (r := some a0) E.1 E.2.1 dX6_joined_46 rfl (lv_at hl 0 rfl) ?_
              refine hv_aload_n (r := p1) E.1 E.2.1 dX6_joined_47 rfl (lv_at hl 1 rfl) ?_
              obtain ⟨⟨fs24, hrv⟩, hw⟩ := hw
              have hq := hw
              clear hw
              refine hv_callz (u := u20) (B1 := 0) hI (vx_runV (As := [va_rf p1]) (rest := []) E (met_X6_isWord l htr G (d + k + 231) hq) (cwV 1 E.2.2.2.2 (lw_V q892 q894 qs19 q129 q895) rfl rfl rfl hd_X6_isWord (rm_ok (by omega) (by decide))) (hv_preV hK hI hrv rfl) rfl rfl hl.1 rfl (lv_room (by first | rfl | decide | (simp [va_rf_cat, int_cat, long_cat]; done) | (simp [va_rf_cat, int_cat, long_cat]; decide))) dX6_joined_48 (hv_fit (by first | exact hu | omega))) (fun _ _ _ _ _ h => h.elim) (fun b23 y22 H locs hw hI => ?_)
              refine lv_if_eq (tgt := 87) E.1 E.2.1 dX6_joined_51 (by decide) (fun c25 => ?_) (fun c25 => ?_)
              · replace hw := hw.1 (bi_z c25)
                refine hv_aload (r := some a12) E.1 E.2.1 dX6_joined_87 (lv_at hl 3 rfl) ?_
                exact hv_aret (r := some a12) E hr (Or.inl ⟨_, rfl⟩) hlocks hI hu hw dX6_joined_89
              · replace hw := hw.2 (bi_n c25)
                obtain ⟨J26, hj51, hw⟩ := hw
                have jh27 : ∀ (y28 : HS) (u31 : Nat) (r29 : Option Nat) (r30 : Option Nat), J26 y28 u31 r29 r30 → ∀ (H : Heap) (locs : List Loc) (ls : Array Slot), HI G y0 y28 s H locs → lv_has ls 5 [(0, va_rf (some a0)), (1, va_rf p1), (2, .int (bi b4)), (4, va_rf (some a12))] → W p l e (rmB (d + (k + 1) + 233) B) s m args below meth c H locs u31 (20 * u31) (vx_MQ below (hQq G y0 post) (hX G y0 xp) args s B (20 * B) (HA y0)) (F0 m 80 ls [va_rf r29, va_rf r30]) := by
                  intro y28 u31 r29 r30 hw H locs ls hI hl
                  replace hw := hj51 y28 u31 r29 r30 hw
                  obtain ⟨hu, hw⟩ := hw
                  obtain ⟨a32, ea32, hw⟩ := hw
                  revert hl hw; subst ea32; intro hl hw
                  obtain ⟨⟨fs35, hrv⟩, hw⟩ := hw
                  obtain ⟨k36, hB, hw⟩ := hw
                  have hq := hw
                  clear hw
                  refine hv_callz (u := u31) (B1 := k36) hI (vx_runV (As := [va_rf r29]) (rest := []) E (met_J2_add l G (d + k + 227) hq) (cwV 1 E.2.2.2.2 (lw_V q909 q910 q911 q124 q912) rfl rfl rfl hd_J2_add (rm_ok (by omega) (by decide))) (hv_preV hK hI hrv rfl) rfl rfl hl.1 rfl (lv_room (by first | rfl | decide | (simp [va_rf_cat, int_cat, long_cat]; done) | (simp [va_rf_cat, int_cat, long_cat]; decide))) dX6_joined_80 (hv_fit (by first | exact hB | omega))) (fun _ _ _ _ _ h => h.elim) (fun b34 y33 H locs hw hI => ?_)
                  have hu := hB
                  refine lv_pop E.1 E.2.1 dX6_joined_83 rfl ?_
                  refine lv_goto (tgt := 46) E.1 E.2.1 dX6_joined_84 (by decide) ?_
                  obtain ⟨n37, hnn37, hin37⟩ := hw
                  exact ih18 n37 hnn37 _ _ hin37 _ _ _ hI (lv_sub hl [0, 1, 2, 3] rfl)
                refine hv_aload_n (r := some a0) E.1 E.2.1 dX6_joined_54 rfl (lv_at hl 0 rfl) ?_
                obtain ⟨⟨fs39, hrv⟩, hw⟩ := hw
                obtain ⟨k40, hB, hw⟩ := hw
                have hq := hw
                clear hw
                refine hv_callv (u := u20) (B1 := k40) hI (vx_runV (As := []) (rest := []) E (met_X6_next l htr G (d + k + 226) hq) (cwV 0 E.2.2.2.2 (lw_V q314 q316 qs1 q129 q317) rfl rfl rfl hd_X6_next (rm_ok (by omega) (by decide))) (hv_preV hK hI hrv rfl) rfl rfl hl.1 rfl (lv_room (by first | rfl | decide | (simp [va_rf_cat, int_cat, long_cat]; done) | (simp [va_rf_cat, int_cat, long_cat]; decide))) dX6_joined_55 (hv_fit (by first | exact hB | omega))) (fun _ _ _ _ _ h => h.elim) (fun y38 H locs hw hI => ?_)
                have hu := hB
                refine hv_aload (r := some a12) E.1 E.2.1 dX6_joined_58 (lv_at hl 3 rfl) ?_
                obtain ⟨f41, ⟨fs, hfs, hfk⟩, hw⟩ := hw
                refine hv_getN (v := va_rf f41) E hK hI ciX14 1 (Nat.le_of_ble_eq_true rfl) q1129 (fun _ h => h) (Or.inl hfs) hfk dX6_joined_60 ?_
                refine lv_iload_n E.1 E.2.1 dX6_joined_63 rfl (lv_at hl 2 rfl) ?_
                refine lv_if_eq (tgt := 76) E.1 E.2.1 dX6_joined_64 (by decide) (fun c42 => ?_) (fun c42 => ?_)
                · replace hw := hw.1 (bi_z c42)
                  refine hv_aload_n (r := some a0) E.1 E.2.1 dX6_joined_76 rfl (lv_at hl 0 rfl) ?_
                  obtain ⟨⟨fs45, hrv⟩, hw⟩ := hw
                  obtain ⟨k46, hB, hw⟩ := hw
                  have hq := hw
                  clear hw
                  refine hv_callq (u := ((u20 + k40))) (B1 := k46) hI (vx_runV (As := []) (rest := [va_rf f41]) E (ih.2.2.1 hq) (cwV 0 E.2.2.2.2 (lw_V q1108 q1110 qs34 q129 q1111) rfl rfl rfl hd_X6_one (rm_ok (by omega) (by decide))) (hv_preV hK hI hrv rfl) rfl rfl hl.1 rfl (lv_room (by first | rfl | decide | (simp [va_rf_cat, int_cat, long_cat]; done) | (simp [va_rf_cat, int_cat, long_cat]; decide))) dX6_joined_77 (hv_fit (by first | exact hB | omega))) (fun ec q y1 H locs hx hI hc => hv_out hE hlocks hI hc (by first | exact hB | omega) hx) (fun r44 y43 H locs hw hI => ?_)
                  have hu := hB
                  exact jh27 _ _ _ _ hw _ _ _ hI (lv_sub hl [0, 1, 2, 3] rfl)
                · replace hw := hw.2 (bi_n c42)
                  refine hv_aload_n (r := some a0) E.1 E.2.1 dX6_joined_67 rfl (lv_at hl 0 rfl) ?_
                  refine hv_ldcS E hK 15 1 rfl dX6_joined_68 ?_
                  obtain ⟨⟨fs49, hrv⟩, hw⟩ := hw
                  obtain ⟨k50, hB, hw⟩ := hw
                  have hq := hw
                  clear hw
                  refine hv_callq (u := ((u20 + k40))) (B1 := k50) hI (vx_runV (As := [va_rf (some (gK G 1))]) (rest := [va_rf f41]) E (ih.2.1 hq) (cwV 1 E.2.2.2.2 (lw_V q1104 q1106 qs33 q129 q1107) rfl rfl rfl hd_X6_joined (rm_ok (by omega) (by decide))) (hv_preV hK hI hrv rfl) rfl rfl hl.1 rfl (lv_room (by first | rfl | decide | (simp [va_rf_cat, int_cat, long_cat]; done) | (simp [va_rf_cat, int_cat, long_cat]; decide))) dX6_joined_70 (hv_fit (by first | exact hB | omega))) (fun ec q y1 H locs hx hI hc => hv_out hE hlocks hI hc (by first | exact hB | omega) hx) (fun r48 y47 H locs hw hI => ?_)
                  have hu := hB
                  refine lv_goto (tgt := 80) E.1 E.2.1 dX6_joined_73 (by decide) ?_
                  exact jh27 _ _ _ _ hw _ _ _ hI (lv_sub hl [0, 1, 2, 3] rfl)
          exact L19 n21 _ _ hi53 _ _ _ hI (lv_sub hl [2, 3, 4, 0] rfl)
        · replace hw := hw.2 (bi_z c10)
          refine hv_aload_n (r := r5) E.1 E.2.1 dX6_joined_33 rfl (lv_at hl 0 rfl) ?_
          exact hv_aret (r := r5) E hr (Or.inl ⟨_, rfl⟩) hlocks hI hu hw dX6_joined_34
      refine hv_aload_n (r := p1) E.1 E.2.1 dX6_joined_0 rfl (lv_at hl 1 rfl) ?_
      refine hv_ldcS E hK 14 13 rfl dX6_joined_1 ?_
      obtain ⟨a54, ea54, hw⟩ := hw
      revert hl hw; subst ea54; intro hl hw
      obtain ⟨⟨fs57, hrv⟩, hw⟩ := hw
      have hq := hw
      clear hw
      refine hv_callz (u := 0) (B1 := 0) hI (vx_runV (As := [va_rf (some (gK G 13))]) (rest := []) E (met_J5_equals l G (d + k + 232) hq) (cwV 1 E.2.2.2.2 (lw_V q736 q737 q738 q132 q739) rfl rfl rfl hd_J5_equals (rm_ok (by omega) (by decide))) (hv_preV hK hI hrv rfl) rfl rfl hl.1 rfl (lv_room (by first | rfl | decide | (simp [va_rf_cat, int_cat, long_cat]; done) | (simp [va_rf_cat, int_cat, long_cat]; decide))) dX6_joined_3 (hv_fit (by first | exact hu | omega))) (fun _ _ _ _ _ h => h.elim) (fun b56 y55 H locs hw hI => ?_)
      refine lv_istore_n (lv' := [(2, .int (bi b56)), (0, va_rf (some a0)), (1, va_rf (some a54))]) E.1 E.2.1 dX6_joined_6 rfl hl (Nat.le_of_ble_eq_true rfl) (by first | rfl | decide | (simp [va_rf_cat, int_cat, long_cat]; done) | (simp [va_rf_cat, int_cat, long_cat]; decide)) (fun ls hl => ?_)
      refine lv_iload_n E.1 E.2.1 dX6_joined_7 rfl (lv_at hl 0 rfl) ?_
      refine lv_if_eq (tgt := 20) E.1 E.2.1 dX6_joined_8 (by decide) (fun c58 => ?_) (fun c58 => ?_)
      · replace hw := hw.1 (bi_z c58)
        refine hv_aload_n (r := some a0) E.1 E.2.1 dX6_joined_20 rfl (lv_at hl 1 rfl) ?_
        obtain ⟨⟨fs61, hrv⟩, hw⟩ := hw
        obtain ⟨k62, hB, hw⟩ := hw
        have hq := hw
        clear hw
        refine hv_callq (u := 0) (B1 := k62) hI (vx_runV (As := []) (rest := []) E (ih.2.2.1 hq) (cwV 0 E.2.2.2.2 (lw_V q1108 q1110 qs34 q129 q1111) rfl rfl rfl hd_X6_one (rm_ok (by omega) (by decide))) (hv_preV hK hI hrv rfl) rfl rfl hl.1 rfl (lv_room (by first | rfl | decide | (simp [va_rf_cat, int_cat, long_cat]; done) | (simp [va_rf_cat, int_cat, long_cat]; decide))) dX6_joined_21 (hv_fit (by first | exact hB | omega))) (fun ec q y1 H locs hx hI hc => hv_out hE hlocks hI hc (by first | exact hB | omega) hx) (fun r60 y59 H locs hw hI => ?_)
        have hu := hB
        exact jh2 _ _ _ _ hw _ _ _ hI (lv_sub hl [1, 2, 0] rfl)
      · replace hw := hw.2 (bi_n c58)
        refine hv_aload_n (r := some a0) E.1 E.2.1 dX6_joined_11 rfl (lv_at hl 1 rfl) ?_
        refine hv_ldcS E hK 15 1 rfl dX6_joined_12 ?_
        obtain ⟨⟨fs65, hrv⟩, hw⟩ := hw
        obtain ⟨k66, hB, hw⟩ := hw
        have hq := hw
        clear hw
        refine hv_callq (u := 0) (B1 := k66) hI (vx_runV (As := [va_rf (some (gK G 1))]) (rest := []) E (ih.2.1 hq) (cwV 1 E.2.2.2.2 (lw_V q1104 q1106 qs33 q129 q1107) rfl rfl rfl hd_X6_joined (rm_ok (by omega) (by decide))) (hv_preV hK hI hrv rfl) rfl rfl hl.1 rfl (lv_room (by first | rfl | decide | (simp [va_rf_cat, int_cat, long_cat]; done) | (simp [va_rf_cat, int_cat, long_cat]; decide))) dX6_joined_14 (hv_fit (by first | exact hB | omega))) (fun ec q y1 H locs hx hI hc => hv_out hE hlocks hI hc (by first | exact hB | omega) hx) (fun r64 y63 H locs hw hI => ?_)
        have hu := hB
        refine lv_goto (tgt := 24) E.1 E.2.1 dX6_joined_17 (by decide) ?_
        exact jh2 _ _ _ _ hw _ _ _ hI (lv_sub hl [1, 2, 0] rfl)
    · intro B post xp y0 a0 hw
      replace hw : wb_X6_one G (wp_c4 G k) B post xp y0 a0 := hw
      unfold wb_X6_one at hw
      refine hv_met (own := RX6) (by decide) rfl (Nat.le_of_ble_eq_true rfl) ?_
      intro p e s m args below meth c ls E hr hlocks hnm hE hK hI hl
      replace hl : lv_has ls 4 [(0, va_rf (some a0))] := hl
      have hu : 0 ≤ B := Nat.zero_le _
      refine hv_aload_n (r := some a0) E.1 E.2.1 dX6_one_0 rfl (lv_at hl 0 rfl) ?_
      refine lv_bipush (v := nI 40) E.1 E.2.1 dX6_one_1 rfl ?_
      obtain ⟨⟨fs3, hrv⟩, hw⟩ := hw
      have hq := hw
      clear hw
      refine hv_callz (u := 0) (B1 := 0) hI (vx_runV (As := [.int (nI 40)]) (rest := []) E (met_X6_isSign l htr G (d + k + 232) hq) (cwV 1 E.2.2.2.2 (lw_V q969 q971 qs23 q129 q972) rfl rfl rfl hd_X6_isSign (rm_ok (by omega) (by decide))) (hv_preV hK hI hrv rfl) rfl rfl hl.1 rfl (lv_room (by first | rfl | decide | (simp [va_rf_cat, int_cat, long_cat]; done) | (simp [va_rf_cat, int_cat, long_cat]; decide))) dX6_one_3 (hv_fit (by first | exact hu | omega))) (fun _ _ _ _ _ h => h.elim) (fun b2 y1 H locs hw hI => ?_)
      refine lv_if_eq (tgt := 40) E.1 E.2.1 dX6_one_6 (by decide) (fun c4 => ?_) (fun c4 => ?_)
      · replace hw := hw.1 (bi_z c4)
        obtain ⟨J5, hj107, hw⟩ := hw
        have jh6 : ∀ (y7 : HS) (u10 : Nat) (r8 : Option Nat) (x9 : Int32), J5 y7 u10 r8 x9 → ∀ (H : Heap) (locs : List Loc) (ls : Array Slot), HI G y0 y7 s H locs → lv_has ls 4 [(0, va_rf (some a0)), (1, va_rf r8), (3, .int (x9))] → W p l e (rmB (d + (k + 1) + 233) B) s m args below meth c H locs u10 (20 * u10) (vx_MQ below (hQq G y0 post) (hX G y0 xp) args s B (20 * B) (HA y0)) (F0 m 255 ls []) := by
          intro y7 u10 r8 x9 hw H locs ls hI hl
          replace hw := hj107 y7 u10 r8 x9 hw
          obtain ⟨hu, hw⟩ := hw
          refine lv_iload_n E.1 E.2.1 dX6_one_255 rfl (lv_at hl 2 rfl) ?_
          by_cases c11 : x9 = nI 0
          · replace hw := hw.1 c11
            have hti : x9.toInt = 0 := by rw [c11]; decide
            refine lv_tableIn (tgt := 304) (off := 48) E.1 E.2.1 dX6_one_256 (by rw [hti]; decide) (by rw [hti]; decide) (by rw [hti]; rfl) (by decide) ?_
            refine hv_aload_n (r := some a0) E.1 E.2.1 dX6_one_304 rfl (lv_at hl 0 rfl) ?_
            obtain ⟨⟨fs14, hrv⟩, hw⟩ := hw
            obtain ⟨k15, hB, hw⟩ := hw
            have hq := hw
            clear hw
            refine hv_callq (u := u10) (B1 := k15) hI (vx_runV (As := []) (rest := []) E (ih.2.2.2 hq) (cwV 0 E.2.2.2.2 (lw_V q1112 q1114 qs35 q129 q1115) rfl rfl rfl hd_X6_not (rm_ok (by omega) (by decide))) (hv_preV hK hI hrv rfl) rfl rfl hl.1 rfl (lv_room (by first | rfl | decide | (simp [va_rf_cat, int_cat, long_cat]; done) | (simp [va_rf_cat, int_cat, long_cat]; decide))) dX6_one_305 (hv_fit (by first | exact hB | omega))) (fun ec q y1 H locs hx hI hc => hv_out hE hlocks hI hc (by first | exact hB | omega) hx) (fun r13 y12 H locs hw hI => ?_)
            have hu := hB
            exact hv_aret (r := r13) E hr (Or.inl ⟨_, rfl⟩) hlocks hI hu hw dX6_one_308
          replace hw := hw.2 c11
          by_cases c16 : x9 = nI 1
          · replace hw := hw.1 c16
            have hti : x9.toInt = 1 := by rw [c16]; decide
            refine lv_tableIn (tgt := 309) (off := 53) E.1 E.2.1 dX6_one_256 (by rw [hti]; decide) (by rw [hti]; decide) (by rw [hti]; rfl) (by decide) ?_
            refine hv_aload_n (r := some a0) E.1 E.2.1 dX6_one_309 rfl (lv_at hl 0 rfl) ?_
            refine hv_aload_n (r := r8) E.1 E.2.1 dX6_one_310 rfl (lv_at hl 1 rfl) ?_
            obtain ⟨⟨fs19, hrv⟩, hw⟩ := hw
            obtain ⟨k20, hB, hw⟩ := hw
            have hq := hw
            clear hw
            refine hv_callq (u := u10) (B1 := k20) hI (vx_runV (As := [va_rf r8]) (rest := []) E (met_X6_ofCodes l htr G (d + k + 1) hq) (cwV 1 E.2.2.2.2 (lw_V q1135 q1137 qs36 q129 q1138) rfl rfl rfl hd_X6_ofCodes (rm_ok (by omega) (by decide))) (hv_preV hK hI hrv rfl) rfl rfl hl.1 rfl (lv_room (by first | rfl | decide | (simp [va_rf_cat, int_cat, long_cat]; done) | (simp [va_rf_cat, int_cat, long_cat]; decide))) dX6_one_311 (hv_fit (by first | exact hB | omega))) (fun ec q y1 H locs hx hI hc => hv_out hE hlocks hI hc (by first | exact hB | omega) hx) (fun r18 y17 H locs hw hI => ?_)
            have hu := hB
            exact hv_aret (r := r18) E hr (Or.inl ⟨_, rfl⟩) hlocks hI hu hw dX6_one_314
          replace hw := hw.2 c16
          by_cases c21 : x9 = nI 2
          · replace hw := hw.1 c21
            have hti : x9.toInt = 2 := by rw [c21]; decide
            refine lv_tableIn (tgt := 309) (off := 53) E.1 E.2.1 dX6_one_256 (by rw [hti]; decide) (by rw [hti]; decide) (by rw [hti]; rfl) (by decide) ?_
            refine hv_aload_n (r := some a0) E.1 E.2.1 dX6_one_309 rfl (lv_at hl 0 rfl) ?_
            refine hv_aload_n (r := r8) E.1 E.2.1 dX6_one_310 rfl (lv_at hl 1 rfl) ?_
            obtain ⟨⟨fs24, hrv⟩, hw⟩ := hw
            obtain ⟨k25, hB, hw⟩ := hw
            have hq := hw
            clear hw
            refine hv_callq (u := u10) (B1 := k25) hI (vx_runV (As := [va_rf r8]) (rest := []) E (met_X6_ofCodes l htr G (d + k + 1) hq) (cwV 1 E.2.2.2.2 (lw_V q1135 q1137 qs36 q129 q1138) rfl rfl rfl hd_X6_ofCodes (rm_ok (by omega) (by decide))) (hv_preV hK hI hrv rfl) rfl rfl hl.1 rfl (lv_room (by first | rfl | decide | (simp [va_rf_cat, int_cat, long_cat]; done) | (simp [va_rf_cat, int_cat, long_cat]; decide))) dX6_one_311 (hv_fit (by first | exact hB | omega))) (fun ec q y1 H locs hx hI hc => hv_out hE hlocks hI hc (by first | exact hB | omega) hx) (fun r23 y22 H locs hw hI => ?_)
            have hu := hB
            exact hv_aret (r := r23) E hr (Or.inl ⟨_, rfl⟩) hlocks hI hu hw dX6_one_314
          replace hw := hw.2 c21
          by_cases c26 : x9 = nI 3
          · replace hw := hw.1 c26
            have hti : x9.toInt = 3 := by rw [c26]; decide
            refine lv_tableIn (tgt := 309) (off := 53) E.1 E.2.1 dX6_one_256 (by rw [hti]; decide) (by rw [hti]; decide) (by rw [hti]; rfl) (by decide) ?_
            refine hv_aload_n (r := some a0) E.1 E.2.1 dX6_one_309 rfl (lv_at hl 0 rfl) ?_
            refine hv_aload_n (r := r8) E.1 E.2.1 dX6_one_310 rfl (lv_at hl 1 rfl) ?_
            obtain ⟨⟨fs29, hrv⟩, hw⟩ := hw
            obtain ⟨k30, hB, hw⟩ := hw
            have hq := hw
            clear hw
            refine hv_callq (u := u10) (B1 := k30) hI (vx_runV (As := [va_rf r8]) (rest := []) E (met_X6_ofCodes l htr G (d + k + 1) hq) (cwV 1 E.2.2.2.2 (lw_V q1135 q1137 qs36 q129 q1138) rfl rfl rfl hd_X6_ofCodes (rm_ok (by omega) (by decide))) (hv_preV hK hI hrv rfl) rfl rfl hl.1 rfl (lv_room (by first | rfl | decide | (simp [va_rf_cat, int_cat, long_cat]; done) | (simp [va_rf_cat, int_cat, long_cat]; decide))) dX6_one_311 (hv_fit (by first | exact hB | omega))) (fun ec q y1 H locs hx hI hc => hv_out hE hlocks hI hc (by first | exact hB | omega) hx) (fun r28 y27 H locs hw hI => ?_)
            have hu := hB
            exact hv_aret (r := r28) E hr (Or.inl ⟨_, rfl⟩) hlocks hI hu hw dX6_one_314
          replace hw := hw.2 c26
          by_cases c31 : x9 = nI 4
          · replace hw := hw.1 c31
            have hti : x9.toInt = 4 := by rw [c31]; decide
            refine lv_tableIn (tgt := 315) (off := 59) E.1 E.2.1 dX6_one_256 (by rw [hti]; decide) (by rw [hti]; decide) (by rw [hti]; rfl) (by decide) ?_
            refine hv_aload_n (r := some a0) E.1 E.2.1 dX6_one_315 rfl (lv_at hl 0 rfl) ?_
            refine hv_aload_n (r := r8) E.1 E.2.1 dX6_one_316 rfl (lv_at hl 1 rfl) ?_
            obtain ⟨⟨fs34, hrv⟩, hw⟩ := hw
            obtain ⟨k35, hB, hw⟩ := hw
            have hq := hw
            clear hw
            refine hv_callq (u := u10) (B1 := k35) hI (vx_runV (As := [va_rf r8]) (rest := []) E (met_X6_compared l htr G (d + k + 2) hq) (cwV 1 E.2.2.2.2 (lw_V q1194 q1196 qs39 q129 q1197) rfl rfl rfl hd_X6_compared (rm_ok (by omega) (by decide))) (hv_preV hK hI hrv rfl) rfl rfl hl.1 rfl (lv_room (by first | rfl | decide | (simp [va_rf_cat, int_cat, long_cat]; done) | (simp [va_rf_cat, int_cat, long_cat]; decide))) dX6_one_317 (hv_fit (by first | exact hB | omega))) (fun ec q y1 H locs hx hI hc => hv_out hE hlocks hI hc (by first | exact hB | omega) hx) (fun r33 y32 H locs hw hI => ?_)
            have hu := hB
            exact hv_aret (r := r33) E hr (Or.inl ⟨_, rfl⟩) hlocks hI hu hw dX6_one_320
          replace hw := hw.2 c31
          by_cases c36 : x9 = nI 5
          · replace hw := hw.1 c36
            have hti : x9.toInt = 5 := by rw [c36]; decide
            refine lv_tableIn (tgt := 315) (off := 59) E.1 E.2.1 dX6_one_256 (by rw [hti]; decide) (by rw [hti]; decide) (by rw [hti]; rfl) (by decide) ?_
            refine hv_aload_n (r := some a0) E.1 E.2.1 dX6_one_315 rfl (lv_at hl 0 rfl) ?_
            refine hv_aload_n (r := r8) E.1 E.2.1 dX6_one_316 rfl (lv_at hl 1 rfl) ?_
            obtain ⟨⟨fs39, hrv⟩, hw⟩ := hw
            obtain ⟨k40, hB, hw⟩ := hw
            have hq := hw
            clear hw
            refine hv_callq (u := u10) (B1 := k40) hI (vx_runV (As := [va_rf r8]) (rest := []) E (met_X6_compared l htr G (d + k + 2) hq) (cwV 1 E.2.2.2.2 (lw_V q1194 q1196 qs39 q129 q1197) rfl rfl rfl hd_X6_compared (rm_ok (by omega) (by decide))) (hv_preV hK hI hrv rfl) rfl rfl hl.1 rfl (lv_room (by first | rfl | decide | (simp [va_rf_cat, int_cat, long_cat]; done) | (simp [va_rf_cat, int_cat, long_cat]; decide))) dX6_one_317 (hv_fit (by first | exact hB | omega))) (fun ec q y1 H locs hx hI hc => hv_out hE hlocks hI hc (by first | exact hB | omega) hx) (fun r38 y37 H locs hw hI => ?_)
            have hu := hB
            exact hv_aret (r := r38) E hr (Or.inl ⟨_, rfl⟩) hlocks hI hu hw dX6_one_320
          replace hw := hw.2 c36
          by_cases c41 : x9 = nI 6
          · replace hw := hw.1 c41
            have hti : x9.toInt = 6 := by rw [c41]; decide
            refine lv_tableIn (tgt := 315) (off := 59) E.1 E.2.1 dX6_one_256 (by rw [hti]; decide) (by rw [hti]; decide) (by rw [hti]; rfl) (by decide) ?_
            refine hv_aload_n (r := some a0) E.1 E.2.1 dX6_one_315 rfl (lv_at hl 0 rfl) ?_
            refine hv_aload_n (r := r8) E.1 E.2.1 dX6_one_316 rfl (lv_at hl 1 rfl) ?_
            obtain ⟨⟨fs44, hrv⟩, hw⟩ := hw
            obtain ⟨k45, hB, hw⟩ := hw
            have hq := hw
            clear hw
            refine hv_callq (u := u10) (B1 := k45) hI (vx_runV (As := [va_rf r8]) (rest := []) E (met_X6_compared l htr G (d + k + 2) hq) (cwV 1 E.2.2.2.2 (lw_V q1194 q1196 qs39 q129 q1197) rfl rfl rfl hd_X6_compared (rm_ok (by omega) (by decide))) (hv_preV hK hI hrv rfl) rfl rfl hl.1 rfl (lv_room (by first | rfl | decide | (simp [va_rf_cat, int_cat, long_cat]; done) | (simp [va_rf_cat, int_cat, long_cat]; decide))) dX6_one_317 (hv_fit (by first | exact hB | omega))) (fun ec q y1 H locs hx hI hc => hv_out hE hlocks hI hc (by first | exact hB | omega) hx) (fun r43 y42 H locs hw hI => ?_)
            have hu := hB
            exact hv_aret (r := r43) E hr (Or.inl ⟨_, rfl⟩) hlocks hI hu hw dX6_one_320
          replace hw := hw.2 c41
          by_cases c46 : x9 = nI 7
          · replace hw := hw.1 c46
            have hti : x9.toInt = 7 := by rw [c46]; decide
            refine lv_tableIn (tgt := 315) (off := 59) E.1 E.2.1 dX6_one_256 (by rw [hti]; decide) (by rw [hti]; decide) (by rw [hti]; rfl) (by decide) ?_
            refine hv_aload_n (r := some a0) E.1 E.2.1 dX6_one_315 rfl (lv_at hl 0 rfl) ?_
            refine hv_aload_n (r := r8) E.1 E.2.1 dX6_one_316 rfl (lv_at hl 1 rfl) ?_
            obtain ⟨⟨fs49, hrv⟩, hw⟩ := hw
            obtain ⟨k50, hB, hw⟩ := hw
            have hq := hw
            clear hw
            refine hv_callq (u := u10) (B1 := k50) hI (vx_runV (As := [va_rf r8]) (rest := []) E (met_X6_compared l htr G (d + k + 2) hq) (cwV 1 E.2.2.2.2 (lw_V q1194 q1196 qs39 q129 q1197) rfl rfl rfl hd_X6_compared (rm_ok (by omega) (by decide))) (hv_preV hK hI hrv rfl) rfl rfl hl.1 rfl (lv_room (by first | rfl | decide | (simp [va_rf_cat, int_cat, long_cat]; done) | (simp [va_rf_cat, int_cat, long_cat]; decide))) dX6_one_317 (hv_fit (by first | exact hB | omega))) (fun ec q y1 H locs hx hI hc => hv_out hE hlocks hI hc (by first | exact hB | omega) hx) (fun r48 y47 H locs hw hI => ?_)
            have hu := hB
            exact hv_aret (r := r48) E hr (Or.inl ⟨_, rfl⟩) hlocks hI hu hw dX6_one_320
          replace hw := hw.2 c46
          refine lv_tableOut (tgt := 321) E.1 E.2.1 dX6_one_256 (tab_out (fun j h1 h2 h3 => ?_)) (by decide) ?_
          · have hj : j = 0 ∨ j = 1 ∨ j = 2 ∨ j = 3 ∨ j = 4 ∨ j = 5 ∨ j = 6 ∨ j = 7 := by omega
            rcases hj with rfl | rfl | rfl | rfl | rfl | rfl | rfl | rfl
            · exact c11 (Int32.toInt_inj.mp (by rw [h3]; decide))
            · exact c16 (Int32.toInt_inj.mp (by rw [h3]; decide))
            · exact c21 (Int32.toInt_inj.mp (by rw [h3]; decide))
            · exact c26 (Int32.toInt_inj.mp (by rw [h3]; decide))
            · exact c31 (Int32.toInt_inj.mp (by rw [h3]; decide))
            · exact c36 (Int32.toInt_inj.mp (by rw [h3]; decide))
            · exact c41 (Int32.toInt_inj.mp (by rw [h3]; decide))
            · exact c46 (Int32.toInt_inj.mp (by rw [h3]; decide))
          · skip
            refine hv_aload_n (r := some a0) E.1 E.2.1 dX6_one_321 rfl (lv_at hl 0 rfl) ?_
            refine lv_iconst (v := nI 1) E.1 E.2.1 dX6_one_322 rfl ?_
            obtain ⟨⟨fs53, hrv⟩, hw⟩ := hw
            obtain ⟨k54, hB, hw⟩ := hw
            have hq := hw
            clear hw
            refine hv_callq (u := u10) (B1 := k54) hI (vx_runV (As := [.int (nI 1)]) (rest := []) E (met_X6_wrong l htr G (d + k + 229) hq) (cwV 1 E.2.2.2.2 (lw_V q598 q600 qs10 q129 q601) rfl rfl rfl hd_X6_wrong (rm_ok (by omega) (by decide))) (hv_preV hK hI hrv rfl) rfl rfl hl.1 rfl (lv_room (by first | rfl | decide | (simp [va_rf_cat, int_cat, long_cat]; done) | (simp [va_rf_cat, int_cat, long_cat]; decide))) dX6_one_323 (hv_fit (by first | exact hB | omega))) (fun _ _ _ _ _ h => h.elim) (fun r52 y51 H locs hw hI => ?_)
            have hu := hB
            obtain ⟨a55, ea55, hw⟩ := hw
            revert hl hw; subst ea55; intro hl hw
            obtain ⟨fs56, hfs, hw⟩ := hw
            refine hv_athrow (q := a55) E dX6_one_326 ?_
            exact hv_out hE hlocks hI (hI.xcell hK (by decide) hfs) hu hw
        refine hv_aload_n (r := some a0) E.1 E.2.1 dX6_one_40 rfl (lv_at hl 0 rfl) ?_
        refine hv_aload_n (r := some a0) E.1 E.2.1 dX6_one_41 rfl (lv_at hl 0 rfl) ?_
        obtain ⟨f57, ⟨fs, hfs, hfk⟩, hw⟩ := hw
        refine hv_get (v := va_rf f57) E hK hI ciX6 4 (Nat.le_of_ble_eq_true rfl) q281 (fun _ h => h) (Or.inl hfs) hfk dX6_one_42 ?_
        obtain ⟨b58, hin, hw⟩ := hw
        refine hv_inst (cn := 20) E hK hI (by decide) q593 hin dX6_one_45 ?_
        refine lv_iconst (v := nI 1) E.1 E.2.1 dX6_one_48 rfl ?_
        obtain ⟨⟨fs60, hrv⟩, hw⟩ := hw
        obtain ⟨k61, hB, hw⟩ := hw
        have hq := hw
        clear hw
        refine hv_callv (u := 0) (B1 := k61) hI (vx_runV (As := [.int (bi b58), .int (nI 1)]) (rest := []) E (met_X6_must l htr G (d + k + 228) hq) (cwV 2 E.2.2.2.2 (lw_V q594 q596 qs9 q129 q597) rfl rfl rfl hd_X6_must (rm_ok (by omega) (by decide))) (hv_preV hK hI hrv rfl) rfl rfl hl.1 rfl (lv_room (by first | rfl | decide | (simp [va_rf_cat, int_cat, long_cat]; done) | (simp [va_rf_cat, int_cat, long_cat]; decide))) dX6_one_49 (hv_fit (by first | exact hB | omega))) (fun ec q y1 H locs hx hI hc => hv_out hE hlocks hI hc (by first | exact hB | omega) hx) (fun y59 H locs hw hI => ?_)
        have hu := hB
        refine hv_aload_n (r := some a0) E.1 E.2.1 dX6_one_52 rfl (lv_at hl 0 rfl) ?_
        obtain ⟨f62, ⟨fs, hfs, hfk⟩, hw⟩ := hw
        refine hv_get (v := va_rf f62) E hK hI ciX6 4 (Nat.le_of_ble_eq_true rfl) q281 (fun _ h => h) (Or.inl hfs) hfk dX6_one_53 ?_
        obtain ⟨hof, hw⟩ := hw
        refine hv_castC (cn := 20) E hK hI (by decide) q593 hof dX6_one_56 ?_
        refine hv_astore_n (r := f62) (lv' := [(1, va_rf f62), (0, va_rf (some a0))]) E.1 E.2.1 dX6_one_59 rfl hl (Nat.le_of_ble_eq_true rfl) (by first | rfl | decide | (simp [va_rf_cat, int_cat, long_cat]; done) | (simp [va_rf_cat, int_cat, long_cat]; decide)) (fun ls hl => ?_)
        refine hv_aload_n (r := f62) E.1 E.2.1 dX6_one_60 rfl (lv_at hl 0 rfl) ?_
        refine hv_astore_n (r := f62) (lv' := [(2, va_rf f62), (1, va_rf f62), (0, va_rf (some a0))]) E.1 E.2.1 dX6_one_61 rfl hl (Nat.le_of_ble_eq_true rfl) (by first | rfl | decide | (simp [va_rf_cat, int_cat, long_cat]; done) | (simp [va_rf_cat, int_cat, long_cat]; decide)) (fun ls hl => ?_)
        refine lv_iconst (v := (-1)) E.1 E.2.1 dX6_one_62 rfl ?_
        refine lv_istore_n (lv' := [(3, .int ((-1))), (2, va_rf f62), (1, va_rf f62), (0, va_rf (some a0))]) E.1 E.2.1 dX6_one_63 rfl hl (Nat.le_of_ble_eq_true rfl) (by first | rfl | decide | (simp [va_rf_cat, int_cat, long_cat]; done) | (simp [va_rf_cat, int_cat, long_cat]; decide)) (fun ls hl => ?_)
        refine hv_aload_n (r := f62) E.1 E.2.1 dX6_one_64 rfl (lv_at hl 1 rfl) ?_
        obtain ⟨a63, ea63, hw⟩ := hw
        revert hl hw; subst ea63; intro hl hw
        obtain ⟨⟨fs66, hrv⟩, hw⟩ := hw
        have hq := hw
        clear hw
        refine hv_calli (u := ((0 + k61))) (B1 := 0) hI (vx_runV (As := []) (rest := []) E (met_J5_hashCode l G (d + k + 230) hq) (cwV 0 E.2.2.2.2 (lw_V q682 q683 q684 q132 q685) rfl rfl rfl hd_J5_hashCode (rm_ok (by omega) (by decide))) (hv_preV hK hI hrv rfl) rfl rfl hl.1 rfl (lv_room (by first | rfl | decide | (simp [va_rf_cat, int_cat, long_cat]; done) | (simp [va_rf_cat, int_cat, long_cat]; decide))) dX6_one_65 (hv_fit (by first | exact hu | omega))) (fun _ _ _ _ _ h => h.elim) (fun x65 y64 H locs hw hI => ?_)
        by_cases c67 : x65 = nI 96511
        · replace hw := hw.1 c67
          have hti : x65.toInt = 96511 := by rw [c67]; decide
          refine lv_lookup (tgt := 200) (off := 132) E.1 E.2.1 dX6_one_68 (by decide) (by rw [hti]; decide) (by decide) ?_
          refine hv_aload_n (r := some a63) E.1 E.2.1 dX6_one_200 rfl (lv_at hl 1 rfl) ?_
          refine hv_ldcS E hK 20 0 rfl dX6_one_201 ?_
          obtain ⟨⟨fs70, hrv⟩, hw⟩ := hw
          have hq := hw
          clear hw
          refine hv_callz (u := ((0 + k61))) (B1 := 0) hI (vx_runV (As := [va_rf (some (gK G 0))]) (rest := []) E (met_J5_equals l G (d + k + 232) hq) (cwV 1 E.2.2.2.2 (lw_V q736 q737 q738 q132 q739) rfl rfl rfl hd_J5_equals (rm_ok (by omega) (by decide))) (hv_preV hK hI hrv rfl) rfl rfl hl.1 rfl (lv_room (by first | rfl | decide | (simp [va_rf_cat, int_cat, long_cat]; done) | (simp [va_rf_cat, int_cat, long_cat]; decide))) dX6_one_203 (hv_fit (by first | exact hu | omega))) (fun _ _ _ _ _ h => h.elim) (fun b69 y68 H locs hw hI => ?_)
          refine lv_if_eq (tgt := 255) E.1 E.2.1 dX6_one_206 (by decide) (fun c71 => ?_) (fun c71 => ?_)
          · replace hw := hw.1 (bi_z c71)
            exact jh6 _ _ _ _ hw _ _ _ hI (lv_sub hl [3, 2, 0] rfl)
          · replace hw := hw.2 (bi_n c71)
            refine lv_iconst (v := nI 4) E.1 E.2.1 dX6_one_209 rfl ?_
            refine lv_istore_n (lv' := [(3, .int (nI 4)), (2, va_rf (some a63)), (1, va_rf (some a63)), (0, va_rf (some a0))]) E.1 E.2.1 dX6_one_210 rfl hl (Nat.le_of_ble_eq_true rfl) (by first | rfl | decide | (simp [va_rf_cat, int_cat, long_cat]; done) | (simp [va_rf_cat, int_cat, long_cat]; decide)) (fun ls hl => ?_)
            refine lv_goto (tgt := 255) E.1 E.2.1 dX6_one_211 (by decide) ?_
            exact jh6 _ _ _ _ hw _ _ _ hI (lv_sub hl [3, 2, 0] rfl)
        replace hw := hw.2 c67
        by_cases c72 : x65 = nI 99455
        · replace hw := hw.1 c72
          have hti : x65.toInt = 99455 := by rw [c72]; decide
          refine lv_lookup (tgt := 186) (off := 118) E.1 E.2.1 dX6_one_68 (by decide) (by rw [hti]; decide) (by decide) ?_
          refine hv_aload_n (r := some a63) E.1 E.2.1 dX6_one_186 rfl (lv_at hl 1 rfl) ?_
          refine hv_ldcS E hK 19 6 rfl dX6_one_187 ?_
          obtain ⟨⟨fs75, hrv⟩, hw⟩ := hw
          have hq := hw
          clear hw
          refine hv_callz (u := ((0 + k61))) (B1 := 0) hI (vx_runV (As := [va_rf (some (gK G 6))]) (rest := []) E (met_J5_equals l G (d + k + 232) hq) (cwV 1 E.2.2.2.2 (lw_V q736 q737 q738 q132 q739) rfl rfl rfl hd_J5_equals (rm_ok (by omega) (by decide))) (hv_preV hK hI hrv rfl) rfl rfl hl.1 rfl (lv_room (by first | rfl | decide | (simp [va_rf_cat, int_cat, long_cat]; done) | (simp [va_rf_cat, int_cat, long_cat]; decide))) dX6_one_189 (hv_fit (by first | exact hu | omega))) (fun _ _ _ _ _ h => h.elim) (fun b74 y73 H locs hw hI => ?_)
          refine lv_if_eq (tgt := 255) E.1 E.2.1 dX6_one_192 (by decide) (fun c76 => ?_) (fun c76 => ?_)
          · replace hw := hw.1 (bi_z c76)
            exact jh6 _ _ _ _ hw _ _ _ hI (lv_sub hl [3, 2, 0] rfl)
          · replace hw := hw.2 (bi_n c76)
            refine lv_iconst (v := nI 3) E.1 E.2.1 dX6_one_195 rfl ?_
            refine lv_istore_n (lv' := [(3, .int (nI 3)), (2, va_rf (some a63)), (1, va_rf (some a63)), (0, va_rf (some a0))]) E.1 E.2.1 dX6_one_196 rfl hl (Nat.le_of_ble_eq_true rfl) (by first | rfl | decide | (simp [va_rf_cat, int_cat, long_cat]; done) | (simp [va_rf_cat, int_cat, long_cat]; decide)) (fun ls hl => ?_)
            refine lv_goto (tgt := 255) E.1 E.2.1 dX6_one_197 (by decide) ?_
            exact jh6 _ _ _ _ hw _ _ _ hI (lv_sub hl [3, 2, 0] rfl)
        replace hw := hw.2 c72
        by_cases c77 : x65 = nI 103066
        · replace hw := hw.1 c77
          have hti : x65.toInt = 103066 := by rw [c77]; decide
          refine lv_lookup (tgt := 158) (off := 90) E.1 E.2.1 dX6_one_68 (by decide) (by rw [hti]; decide) (by decide) ?_
          refine hv_aload_n (r := some a63) E.1 E.2.1 dX6_one_158 rfl (lv_at hl 1 rfl) ?_
          refine hv_ldcS E hK 17 8 rfl dX6_one_159 ?_
          obtain ⟨⟨fs80, hrv⟩, hw⟩ := hw
          have hq := hw
          clear hw
          refine hv_callz (u := ((0 + k61))) (B1 := 0) hI (vx_runV (As := [va_rf (some (gK G 8))]) (rest := []) E (met_J5_equals l G (d + k + 232) hq) (cwV 1 E.2.2.2.2 (lw_V q736 q737 q738 q132 q739) rfl rfl rfl hd_J5_equals (rm_ok (by omega) (by decide))) (hv_preV hK hI hrv rfl) rfl rfl hl.1 rfl (lv_room (by first | rfl | decide | (simp [va_rf_cat, int_cat, long_cat]; done) | (simp [va_rf_cat, int_cat, long_cat]; decide))) dX6_one_161 (hv_fit (by first | exact hu | omega))) (fun _ _ _ _ _ h => h.elim) (fun b79 y78 H locs hw hI => ?_)
          refine lv_if_eq (tgt := 255) E.1 E.2.1 dX6_one_164 (by decide) (fun c81 => ?_) (fun c81 => ?_)
          · replace hw := hw.1 (bi_z c81)
            exact jh6 _ _ _ _ hw _ _ _ hI (lv_sub hl [3, 2, 0] rfl)
          · replace hw := hw.2 (bi_n c81)
            refine lv_iconst (v := nI 1) E.1 E.2.1 dX6_one_167 rfl ?_
            refine lv_istore_n (lv' := [(3, .int (nI 1)), (2, va_rf (some a63)), (1, va_rf (some a63)), (0, va_rf (some a0))]) E.1 E.2.1 dX6_one_168 rfl hl (Nat.le_of_ble_eq_true rfl) (by first | rfl | decide | (simp [va_rf_cat, int_cat, long_cat]; done) | (simp [va_rf_cat, int_cat, long_cat]; decide)) (fun ls hl => ?_)
            refine lv_goto (tgt := 255) E.1 E.2.1 dX6_one_169 (by decide) ?_
            exact jh6 _ _ _ _ hw _ _ _ hI (lv_sub hl [3, 2, 0] rfl)
        replace hw := hw.2 c77
        by_cases c82 : x65 = nI 109267
        · replace hw := hw.1 c82
          have hti : x65.toInt = 109267 := by rw [c82]; decide
          refine lv_lookup (tgt := 144) (off := 76) E.1 E.2.1 dX6_one_68 (by decide) (by rw [hti]; decide) (by decide) ?_
          refine hv_aload_n (r := some a63) E.1 E.2.1 dX6_one_144 rfl (lv_at hl 1 rfl) ?_
          refine hv_ldcS E hK 16 12 rfl dX6_one_145 ?_
          obtain ⟨⟨fs85, hrv⟩, hw⟩ := hw
          have hq := hw
          clear hw
          refine hv_callz (u := ((0 + k61))) (B1 := 0) hI (vx_runV (As := [va_rf (some (gK G 12))]) (rest := []) E (met_J5_equals l G (d + k + 232) hq) (cwV 1 E.2.2.2.2 (lw_V q736 q737 q738 q132 q739) rfl rfl rfl hd_J5_equals (rm_ok (by omega) (by decide))) (hv_preV hK hI hrv rfl) rfl rfl hl.1 rfl (lv_room (by first | rfl | decide | (simp [va_rf_cat, int_cat, long_cat]; done) | (simp [va_rf_cat, int_cat, long_cat]; decide))) dX6_one_147 (hv_fit (by first | exact hu | omega))) (fun _ _ _ _ _ h => h.elim) (fun b84 y83 H locs hw hI => ?_)
          refine lv_if_eq (tgt := 255) E.1 E.2.1 dX6_one_150 (by decide) (fun c86 => ?_) (fun c86 => ?_)
          · replace hw := hw.1 (bi_z c86)
            exact jh6 _ _ _ _ hw _ _ _ hI (lv_sub hl [3, 2, 0] rfl)
          · replace hw := hw.2 (bi_n c86)
            refine lv_iconst (v := nI 0) E.1 E.2.1 dX6_one_153 rfl ?_
            refine lv_istore_n (lv' := [(3, .int (nI 0)), (2, va_rf (some a63)), (1, va_rf (some a63)), (0, va_rf (some a0))]) E.1 E.2.1 dX6_one_154 rfl hl (Nat.le_of_ble_eq_true rfl) (by first | rfl | decide | (simp [va_rf_cat, int_cat, long_cat]; done) | (simp [va_rf_cat, int_cat, long_cat]; decide)) (fun ls hl => ?_)
            refine lv_goto (tgt := 255) E.1 E.2.1 dX6_one_155 (by decide) ?_
            exact jh6 _ _ _ _ hw _ _ _ hI (lv_sub hl [3, 2, 0] rfl)
        replace hw := hw.2 c82
        by_cases c87 : x65 = nI 115029
        · replace hw := hw.1 c87
          have hti : x65.toInt = 115029 := by rw [c87]; decide
          refine lv_lookup (tgt := 243) (off := 175) E.1 E.2.1 dX6_one_68 (by decide) (by rw [hti]; decide) (by decide) ?_
          refine hv_aload_n (r := some a63) E.1 E.2.1 dX6_one_243 rfl (lv_at hl 1 rfl) ?_
          refine hv_ldcS E hK 23 18 rfl dX6_one_244 ?_
          obtain ⟨⟨fs90, hrv⟩, hw⟩ := hw
          have hq := hw
          clear hw
          refine hv_callz (u := ((0 + k61))) (B1 := 0) hI (vx_runV (As := [va_rf (some (gK G 18))]) (rest := []) E (met_J5_equals l G (d + k + 232) hq) (cwV 1 E.2.2.2.2 (lw_V q736 q737 q738 q132 q739) rfl rfl rfl hd_J5_equals (rm_ok (by omega) (by decide))) (hv_preV hK hI hrv rfl) rfl rfl hl.1 rfl (lv_room (by first | rfl | decide | (simp [va_rf_cat, int_cat, long_cat]; done) | (simp [va_rf_cat, int_cat, long_cat]; decide))) dX6_one_246 (hv_fit (by first | exact hu | omega))) (fun _ _ _ _ _ h => h.elim) (fun b89 y88 H locs hw hI => ?_)
          refine lv_if_eq (tgt := 255) E.1 E.2.1 dX6_one_249 (by decide) (fun c91 => ?_) (fun c91 => ?_)
          · replace hw := hw.1 (bi_z c91)
            exact jh6 _ _ _ _ hw _ _ _ hI (lv_sub hl [3, 2, 0] rfl)
          · replace hw := hw.2 (bi_n c91)
            refine lv_bipush (v := nI 7) E.1 E.2.1 dX6_one_252 rfl ?_
            refine lv_istore_n (lv' := [(3, .int (nI 7)), (2, va_rf (some a63)), (1, va_rf (some a63)), (0, va_rf (some a0))]) E.1 E.2.1 dX6_one_254 rfl hl (Nat.le_of_ble_eq_true rfl) (by first | rfl | decide | (simp [va_rf_cat, int_cat, long_cat]; done) | (simp [va_rf_cat, int_cat, long_cat]; decide)) (fun ls hl => ?_)
            exact jh6 _ _ _ _ hw _ _ _ hI (lv_sub hl [3, 2, 0] rfl)
        replace hw := hw.2 c87
        by_cases c92 : x65 = nI 3076183
        · replace hw := hw.1 c92
          have hti : x65.toInt = 3076183 := by rw [c92]; decide
          refine lv_lookup (tgt := 214) (off := 146) E.1 E.2.1 dX6_one_68 (by decide) (by rw [hti]; decide) (by decide) ?_
          refine hv_aload_n (r := some a63) E.1 E.2.1 dX6_one_214 rfl (lv_at hl 1 rfl) ?_
          refine hv_ldcS E hK 21 5 rfl dX6_one_215 ?_
          obtain ⟨⟨fs95, hrv⟩, hw⟩ := hw
          have hq := hw
          clear hw
          refine hv_callz (u := ((0 + k61))) (B1 := 0) hI (vx_runV (As := [va_rf (some (gK G 5))]) (rest := []) E (met_J5_equals l G (d + k + 232) hq) (cwV 1 E.2.2.2.2 (lw_V q736 q737 q738 q132 q739) rfl rfl rfl hd_J5_equals (rm_ok (by omega) (by decide))) (hv_preV hK hI hrv rfl) rfl rfl hl.1 rfl (lv_room (by first | rfl | decide | (simp [va_rf_cat, int_cat, long_cat]; done) | (simp [va_rf_cat, int_cat, long_cat]; decide))) dX6_one_217 (hv_fit (by first | exact hu | omega))) (fun _ _ _ _ _ h => h.elim) (fun b94 y93 H locs hw hI => ?_)
          refine lv_if_eq (tgt := 255) E.1 E.2.1 dX6_one_220 (by decide) (fun c96 => ?_) (fun c96 => ?_)
          · replace hw := hw.1 (bi_z c96)
            exact jh6 _ _ _ _ hw _ _ _ hI (lv_sub hl [3, 2, 0] rfl)
          · replace hw := hw.2 (bi_n c96)
            refine lv_iconst (v := nI 5) E.1 E.2.1 dX6_one_223 rfl ?_
            refine lv_istore_n (lv' := [(3, .int (nI 5)), (2, va_rf (some a63)), (1, va_rf (some a63)), (0, va_rf (some a0))]) E.1 E.2.1 dX6_one_224 rfl hl (Nat.le_of_ble_eq_true rfl) (by first | rfl | decide | (simp [va_rf_cat, int_cat, long_cat]; done) | (simp [va_rf_cat, int_cat, long_cat]; decide)) (fun ls hl => ?_)
            refine lv_goto (tgt := 255) E.1 E.2.1 dX6_one_225 (by decide) ?_
            exact jh6 _ _ _ _ hw _ _ _ hI (lv_sub hl [3, 2, 0] rfl)
        replace hw := hw.2 c92
        by_cases c97 : x65 = nI 3343801
        · replace hw := hw.1 c97
          have hti : x65.toInt = 3343801 := by rw [c97]; decide
          refine lv_lookup (tgt := 172) (off := 104) E.1 E.2.1 dX6_one_68 (by decide) (by rw [hti]; decide) (by decide) ?_
          refine hv_aload_n (r := some a63) E.1 E.2.1 dX6_one_172 rfl (lv_at hl 1 rfl) ?_
          refine hv_ldcS E hK 18 11 rfl dX6_one_173 ?_
          obtain ⟨⟨fs100, hrv⟩, hw⟩ := hw
          have hq := hw
          clear hw
          refine hv_callz (u := ((0 + k61))) (B1 := 0) hI (vx_runV (As := [va_rf (some (gK G 11))]) (rest := []) E (met_J5_equals l G (d + k + 232) hq) (cwV 1 E.2.2.2.2 (lw_V q736 q737 q738 q132 q739) rfl rfl rfl hd_J5_equals (rm_ok (by omega) (by decide))) (hv_preV hK hI hrv rfl) rfl rfl hl.1 rfl (lv_room (by first | rfl | decide | (simp [va_rf_cat, int_cat, long_cat]; done) | (simp [va_rf_cat, int_cat, long_cat]; decide))) dX6_one_175 (hv_fit (by first | exact hu | omega))) (fun _ _ _ _ _ h => h.elim) (fun b99 y98 H locs hw hI => ?_)
          refine lv_if_eq (tgt := 255) E.1 E.2.1 dX6_one_178 (by decide) (fun c101 => ?_) (fun c101 => ?_)
          · replace hw := hw.1 (bi_z c101)
            exact jh6 _ _ _ _ hw _ _ _ hI (lv_sub hl [3, 2, 0] rfl)
          · replace hw := hw.2 (bi_n c101)
            refine lv_iconst (v := nI 2) E.1 E.2.1 dX6_one_181 rfl ?_
            refine lv_istore_n (lv' := [(3, .int (nI 2)), (2, va_rf (some a63)), (1, va_rf (some a63)), (0, va_rf (some a0))]) E.1 E.2.1 dX6_one_182 rfl hl (Nat.le_of_ble_eq_true rfl) (by first | rfl | decide | (simp [va_rf_cat, int_cat, long_cat]; done) | (simp [va_rf_cat, int_cat, long_cat]; decide)) (fun ls hl => ?_)
            refine lv_goto (tgt := 255) E.1 E.2.1 dX6_one_183 (by decide) ?_
            exact jh6 _ _ _ _ hw _ _ _ hI (lv_sub hl [3, 2, 0] rfl)
        replace hw := hw.2 c97
        by_cases c102 : x65 = nI 102865796
        · replace hw := hw.1 c102
          have hti : x65.toInt = 102865796 := by rw [c102]; decide
          refine lv_lookup (tgt := 228) (off := 160) E.1 E.2.1 dX6_one_68 (by decide) (by rw [hti]; decide) (by decide) ?_
          refine hv_aload_n (r := some a63) E.1 E.2.1 dX6_one_228 rfl (lv_at hl 1 rfl) ?_
          refine hv_ldcS E hK 22 10 rfl dX6_one_229 ?_
          obtain ⟨⟨fs105, hrv⟩, hw⟩ := hw
          have hq := hw
          clear hw
          refine hv_callz (u := ((0 + k61))) (B1 := 0) hI (vx_runV (As := [va_rf (some (gK G 10))]) (rest := []) E (met_J5_equals l G (d + k + 232) hq) (cwV 1 E.2.2.2.2 (lw_V q736 q737 q738 q132 q739) rfl rfl rfl hd_J5_equals (rm_ok (by omega) (by decide))) (hv_preV hK hI hrv rfl) rfl rfl hl.1 rfl (lv_room (by first | rfl | decide | (simp [va_rf_cat, int_cat, long_cat]; done) | (simp [va_rf_cat, int_cat, long_cat]; decide))) dX6_one_231 (hv_fit (by first | exact hu | omega))) (fun _ _ _ _ _ h => h.elim) (fun b104 y103 H locs hw hI => ?_)
          refine lv_if_eq (tgt := 255) E.1 E.2.1 dX6_one_234 (by decide) (fun c106 => ?_) (fun c106 => ?_)
          · replace hw := hw.1 (bi_z c106)
            exact jh6 _ _ _ _ hw _ _ _ hI (lv_sub hl [3, 2, 0] rfl)
          · replace hw := hw.2 (bi_n c106)
            refine lv_bipush (v := nI 6) E.1 E.2.1 dX6_one_237 rfl ?_
            refine lv_istore_n (lv' := [(3, .int (nI 6)), (2, va_rf (some a63)), (1, va_rf (some a63)), (0, va_rf (some a0))]) E.1 E.2.1 dX6_one_239 rfl hl (Nat.le_of_ble_eq_true rfl) (by first | rfl | decide | (simp [va_rf_cat, int_cat, long_cat]; done) | (simp [va_rf_cat, int_cat, long_cat]; decide)) (fun ls hl => ?_)
            refine lv_goto (tgt := 255) E.1 E.2.1 dX6_one_240 (by decide) ?_
            exact jh6 _ _ _ _ hw _ _ _ hI (lv_sub hl [3, 2, 0] rfl)
        replace hw := hw.2 c102
        refine lv_lookup (tgt := 255) (off := 187) E.1 E.2.1 dX6_one_68 (by decide) ((lv_osw c67 (by decide)).trans ((lv_osw c72 (by decide)).trans ((lv_osw c77 (by decide)).trans ((lv_osw c82 (by decide)).trans ((lv_osw c87 (by decide)).trans ((lv_osw c92 (by decide)).trans ((lv_osw c97 (by decide)).trans ((lv_osw c102 (by decide)).trans rfl)))))))) (by decide) ?_
        · skip
          exact jh6 _ _ _ _ hw _ _ _ hI (lv_sub hl [3, 2, 0] rfl)
      · replace hw := hw.2 (bi_n c4)
        refine hv_aload_n (r := some a0) E.1 E.2.1 dX6_one_9 rfl (lv_at hl 0 rfl) ?_
        obtain ⟨⟨fs109, hrv⟩, hw⟩ := hw
        obtain ⟨k110, hB, hw⟩ := hw
        have hq := hw
        clear hw
        refine hv_callv (u := 0) (B1 := k110) hI (vx_runV (As := []) (rest := []) E (met_X6_opens l htr G (d + k + 227) hq) (cwV 0 E.2.2.2.2 (lw_V q1043 q1045 qs29 q129 q1046) rfl rfl rfl hd_X6_opens (rm_ok (by omega) (by decide))) (hv_preV hK hI hrv rfl) rfl rfl hl.1 rfl (lv_room (by first | rfl | decide | (simp [va_rf_cat, int_cat, long_cat]; done) | (simp [va_rf_cat, int_cat, long_cat]; decide))) dX6_one_10 (hv_fit (by first | exact hB | omega))) (fun ec q y1 H locs hx hI hc => hv_out hE hlocks hI hc (by first | exact hB | omega) hx) (fun y108 H locs hw hI => ?_)
        have hu := hB
        refine hv_aload_n (r := some a0) E.1 E.2.1 dX6_one_13 rfl (lv_at hl 0 rfl) ?_
        obtain ⟨⟨fs112, hrv⟩, hw⟩ := hw
        obtain ⟨k113, hB, hw⟩ := hw
        have hq := hw
        clear hw
        refine hv_callv (u := ((0 + k110))) (B1 := k113) hI (vx_runV (As := []) (rest := []) E (met_X6_next l htr G (d + k + 226) hq) (cwV 0 E.2.2.2.2 (lw_V q314 q316 qs1 q129 q317) rfl rfl rfl hd_X6_next (rm_ok (by omega) (by decide))) (hv_preV hK hI hrv rfl) rfl rfl hl.1 rfl (lv_room (by first | rfl | decide | (simp [va_rf_cat, int_cat, long_cat]; done) | (simp [va_rf_cat, int_cat, long_cat]; decide))) dX6_one_14 (hv_fit (by first | exact hB | omega))) (fun _ _ _ _ _ h => h.elim) (fun y111 H locs hw hI => ?_)
        have hu := hB
        refine hv_aload_n (r := some a0) E.1 E.2.1 dX6_one_17 rfl (lv_at hl 0 rfl) ?_
        obtain ⟨⟨fs116, hrv⟩, hw⟩ := hw
        obtain ⟨k117, hB, hw⟩ := hw
        have hq := hw
        clear hw
        refine hv_callq (u := (((0 + k110) + k113))) (B1 := k117) hI (vx_runV (As := []) (rest := []) E (ih.1 hq) (cwV 0 E.2.2.2.2 (lw_V q1100 q1102 qs32 q129 q1103) rfl rfl rfl hd_X6_cond (rm_ok (by omega) (by decide))) (hv_preV hK hI hrv rfl) rfl rfl hl.1 rfl (lv_room (by first | rfl | decide | (simp [va_rf_cat, int_cat, long_cat]; done) | (simp [va_rf_cat, int_cat, long_cat]; decide))) dX6_one_18 (hv_fit (by first | exact hB | omega))) (fun ec q y1 H locs hx hI hc => hv_out hE hlocks hI hc (by first | exact hB | omega) hx) (fun r115 y114 H locs hw hI => ?_)
        have hu := hB
        refine hv_astore_n (r := r115) (lv' := [(1, va_rf r115), (0, va_rf (some a0))]) E.1 E.2.1 dX6_one_21 rfl hl (Nat.le_of_ble_eq_true rfl) (by first | rfl | decide | (simp [va_rf_cat, int_cat, long_cat]; done) | (simp [va_rf_cat, int_cat, long_cat]; decide)) (fun ls hl => ?_)
        refine hv_aload_n (r := some a0) E.1 E.2.1 dX6_one_22 rfl (lv_at hl 1 rfl) ?_
        refine lv_bipush (v := nI 41) E.1 E.2.1 dX6_one_23 rfl ?_
        obtain ⟨⟨fs119, hrv⟩, hw⟩ := hw
        obtain ⟨k120, hB, hw⟩ := hw
        have hq := hw
        clear hw
        refine hv_callv (u := ((((0 + k110) + k113) + k117))) (B1 := k120) hI (vx_runV (As := [.int (nI 41)]) (rest := []) E (met_X6_sign l htr G (d + k + 225) hq) (cwV 1 E.2.2.2.2 (lw_V q1047 q1049 qs30 q129 q1050) rfl rfl rfl hd_X6_sign (rm_ok (by omega) (by decide))) (hv_preV hK hI hrv rfl) rfl rfl hl.1 rfl (lv_room (by first | rfl | decide | (simp [va_rf_cat, int_cat, long_cat]; done) | (simp [va_rf_cat, int_cat, long_cat]; decide))) dX6_one_25 (hv_fit (by first | exact hB | omega))) (fun ec q y1 H locs hx hI hc => hv_out hE hlocks hI hc (by first | exact hB | omega) hx) (fun y118 H locs hw hI => ?_)
        have hu := hB
        refine hv_aload_n (r := some a0) E.1 E.2.1 dX6_one_28 rfl (lv_at hl 1 rfl) ?_
        refine hv_dup E.1 E.2.1 dX6_one_29 ?_
        obtain ⟨f121, ⟨fs, hfs, hfk⟩, hw⟩ := hw
        refine hv_get (v := .int f121) E hK hI ciX6 6 (Nat.le_of_ble_eq_true rfl) q283 (fun _ h => h) (Or.inl hfs) hfk dX6_one_30 ?_
        refine lv_iconst (v := nI 1) E.1 E.2.1 dX6_one_33 rfl ?_
        refine lv_isub E.1 E.2.1 dX6_one_34 ?_
        obtain ⟨fs123, hfs, hln, hw⟩ := hw
        refine hv_put (v := .int (f121 - (nI 1))) E hK hI ciX6 6 (Nat.le_of_ble_eq_true rfl) q283 (fun _ h => h) rfl rfl rfl hfs hln dX6_one_35 (fun H locs hI => ?_)
        obtain ⟨y122, ey122⟩ : ∃ w, w = hput y118 a0 (ob 4 (fs123.set 6 (.int (f121 - (nI 1))))) := ⟨_, rfl⟩
        rw [← ey122] at hI
        replace hw := hw y122 ey122
        refine hv_aload_n (r := r115) E.1 E.2.1 dX6_one_38 rfl (lv_at hl 0 rfl) ?_
        exact hv_aret (r := r115) E hr (Or.inl ⟨_, rfl⟩) hlocks hI hu hw dX6_one_39
    · intro B post xp y0 a0 hw
      replace hw : wb_X6_not G (wp_c4 G k) B post xp y0 a0 := hw
      unfold wb_X6_not at hw
      refine hv_met (own := RX6) (by decide) rfl (Nat.le_of_ble_eq_true rfl) ?_
      intro p e s m args below meth c ls E hr hlocks hnm hE hK hI hl
      replace hl : lv_has ls 2 [(0, va_rf (some a0))] := hl
      have hu : 0 ≤ B := Nat.zero_le _
      refine hv_aload_n (r := some a0) E.1 E.2.1 dX6_not_0 rfl (lv_at hl 0 rfl) ?_
      obtain ⟨⟨fs2, hrv⟩, hw⟩ := hw
      obtain ⟨k3, hB, hw⟩ := hw
      have hq := hw
      clear hw
      refine hv_callv (u := 0) (B1 := k3) hI (vx_runV (As := []) (rest := []) E (met_X6_opens l htr G (d + k + 227) hq) (cwV 0 E.2.2.2.2 (lw_V q1043 q1045 qs29 q129 q1046) rfl rfl rfl hd_X6_opens (rm_ok (by omega) (by decide))) (hv_preV hK hI hrv rfl) rfl rfl hl.1 rfl (lv_room (by first | rfl | decide | (simp [va_rf_cat, int_cat, long_cat]; done) | (simp [va_rf_cat, int_cat, long_cat]; decide))) dX6_not_1 (hv_fit (by first | exact hB | omega))) (fun ec q y1 H locs hx hI hc => hv_out hE hlocks hI hc (by first | exact hB | omega) hx) (fun y1 H locs hw hI => ?_)
      have hu := hB
      refine hv_aload_n (r := some a0) E.1 E.2.1 dX6_not_4 rfl (lv_at hl 0 rfl) ?_
      obtain ⟨⟨fs5, hrv⟩, hw⟩ := hw
      obtain ⟨k6, hB, hw⟩ := hw
      have hq := hw
      clear hw
      refine hv_callv (u := ((0 + k3))) (B1 := k6) hI (vx_runV (As := []) (rest := []) E (met_X6_next l htr G (d + k + 226) hq) (cwV 0 E.2.2.2.2 (lw_V q314 q316 qs1 q129 q317) rfl rfl rfl hd_X6_next (rm_ok (by omega) (by decide))) (hv_preV hK hI hrv rfl) rfl rfl hl.1 rfl (lv_room (by first | rfl | decide | (simp [va_rf_cat, int_cat, long_cat]; done) | (simp [va_rf_cat, int_cat, long_cat]; decide))) dX6_not_5 (hv_fit (by first | exact hB | omega))) (fun _ _ _ _ _ h => h.elim) (fun y4 H locs hw hI => ?_)
      have hu := hB
      obtain ⟨hu, hw⟩ := hw
      refine hv_new (fs := [va_rf none, va_rf none]) E hK hI ciX14 q1116 q1117 q158 (df12) (Nat.le_of_ble_eq_true rfl) hu dX6_not_8 (fun H hI => ?_)
      obtain ⟨a8, ea8⟩ : ∃ w, w = y4.2 := ⟨_, rfl⟩
      obtain ⟨y7, ey7⟩ : ∃ w, w = hnew y4 (ob 12 [va_rf none, va_rf none]) := ⟨_, rfl⟩
      rw [← ea8]
      rw [← ey7] at hI
      replace hw := hw a8 ea8 y7 ey7
      refine hv_dup E.1 E.2.1 dX6_not_11 ?_
      refine hv_ldcS E hK 16 12 rfl dX6_not_12 ?_
      refine hv_aload_n (r := some a0) E.1 E.2.1 dX6_not_14 rfl (lv_at hl 0 rfl) ?_
      obtain ⟨⟨fs11, hrv⟩, hw⟩ := hw
      obtain ⟨k12, hB, hw⟩ := hw
      have hq := hw
      clear hw
      refine hv_callq (u := ((((0 + k3) + k6) + 1))) (B1 := k12) hI (vx_runV (As := []) (rest := [va_rf (some (gK G 12)), va_rf (some a8), va_rf (some a8)]) E (ih.2.2.1 hq) (cwV 0 E.2.2.2.2 (lw_V q1108 q1110 qs34 q129 q1111) rfl rfl rfl hd_X6_one (rm_ok (by omega) (by decide))) (hv_preV hK hI hrv rfl) rfl rfl hl.1 rfl (lv_room (by first | rfl | decide | (simp [va_rf_cat, int_cat, long_cat]; done) | (simp [va_rf_cat, int_cat, long_cat]; decide))) dX6_not_15 (hv_fit (by first | exact hB | omega))) (fun ec q y1 H locs hx hI hc => hv_out hE hlocks hI hc (by first | exact hB | omega) hx) (fun r10 y9 H locs hw hI => ?_)
      have hu := hB
      obtain ⟨k14, hB, hw⟩ := hw
      have hq := hw
      clear hw
      refine hv_callv (u := (((((0 + k3) + k6) + 1) + k12))) (B1 := k14) hI (vx_runI (b := a8) (As := [va_rf (some (gK G 12)), va_rf r10]) (rest := [va_rf (some a8)]) E (met_X14_init l G (d + k + 226) hq) (cwI 2 E.2.2.2.2 (lw_meth q1120) rfl rfl rfl (E.2.2.2.2 _ q158) (E.2.2.2.2 _ q1118) (E.2.2.2.2 _ q1119) rfl hs_X14_init (rm_ok (by omega) (by decide))) (hv_preS hK hI) rfl rfl hl.1 rfl (lv_room (by first | rfl | decide | (simp [va_rf_cat, int_cat, long_cat]; done) | (simp [va_rf_cat, int_cat, long_cat]; decide))) dX6_not_18 (hv_fit (by first | exact hB | omega))) (fun _ _ _ _ _ h => h.elim) (fun y13 H locs hw hI => ?_)
      have hu := hB
      refine hv_astore_n (r := some a8) (lv' := [(1, va_rf (some a8)), (0, va_rf (some a0))]) E.1 E.2.1 dX6_not_21 rfl hl (Nat.le_of_ble_eq_true rfl) (by first | rfl | decide | (simp [va_rf_cat, int_cat, long_cat]; done) | (simp [va_rf_cat, int_cat, long_cat]; decide)) (fun ls hl => ?_)
      refine hv_aload_n (r := some a0) E.1 E.2.1 dX6_not_22 rfl (lv_at hl 1 rfl) ?_
      refine hv_dup E.1 E.2.1 dX6_not_23 ?_
      obtain ⟨f15, ⟨fs, hfs, hfk⟩, hw⟩ := hw
      refine hv_get (v := .int f15) E hK hI ciX6 6 (Nat.le_of_ble_eq_true rfl) q283 (fun _ h => h) (Or.inl hfs) hfk dX6_not_24 ?_
      refine lv_iconst (v := nI 1) E.1 E.2.1 dX6_not_27 rfl ?_
      refine lv_isub E.1 E.2.1 dX6_not_28 ?_
      obtain ⟨fs17, hfs, hln, hw⟩ := hw
      refine hv_put (v := .int (f15 - (nI 1))) E hK hI ciX6 6 (Nat.le_of_ble_eq_true rfl) q283 (fun _ h => h) rfl rfl rfl hfs hln dX6_not_29 (fun H locs hI => ?_)
      obtain ⟨y16, ey16⟩ : ∃ w, w = hput y13 a0 (ob 4 (fs17.set 6 (.int (f15 - (nI 1))))) := ⟨_, rfl⟩
      rw [← ey16] at hI
      replace hw := hw y16 ey16
      refine hv_aload_n (r := some a8) E.1 E.2.1 dX6_not_32 rfl (lv_at hl 0 rfl) ?_
      exact hv_aret (r := some a8) E hr (Or.inl ⟨_, rfl⟩) hlocks hI hu hw dX6_not_33
theorem met_X6_cond (l : Launch) (htr : l.stackTraces = false) (G : GP) (d : Nat) (k : Nat) {B : Nat} {post : Option Nat → HS → Prop} {xp : Nat → Nat → HS → Prop} {y0 : HS} {a0 : Nat} (hw : wp_c4 G k 0 B post xp y0 a0 none) : vx_Met l yX6_cond (ws_ yX6_cond cX6_cond 1 (some (.object "java/lang/Object"))) (rmB (d + k + 233) B) (hPc G y0 [va_rf (some a0)]) (hQq G y0 post) (hX G y0 xp) B (20 * B) (HA y0) := (met_c4 l htr G d k).1 hw
theorem met_X6_joined (l : Launch) (htr : l.stackTraces = false) (G : GP) (d : Nat) (k : Nat) {B : Nat} {post : Option Nat → HS → Prop} {xp : Nat → Nat → HS → Prop} {y0 : HS} {a0 : Nat} {p1 : Option Nat} (hw : wp_c4 G k 1 B post xp y0 a0 p1) : vx_Met l yX6_joined (ws_ yX6_joined cX6_joined 5 (some (.object "java/lang/Object"))) (rmB (d + k + 233) B) (hPc G y0 [va_rf (some a0), va_rf p1]) (hQq G y0 post) (hX G y0 xp) B (20 * B) (HA y0) := (met_c4 l htr G d k).2.1 hw
theorem met_X6_one (l : Launch) (htr : l.stackTraces = false) (G : GP) (d : Nat) (k : Nat) {B : Nat} {post : Option Nat → HS → Prop} {xp : Nat → Nat → HS → Prop} {y0 : HS} {a0 : Nat} (hw : wp_c4 G k 2 B post xp y0 a0 none) : vx_Met l yX6_one (ws_ yX6_one cX6_one 4 (some (.object "java/lang/Object"))) (rmB (d + k + 233) B) (hPc G y0 [va_rf (some a0)]) (hQq G y0 post) (hX G y0 xp) B (20 * B) (HA y0) := (met_c4 l htr G d k).2.2.1 hw
theorem met_X6_not (l : Launch) (htr : l.stackTraces = false) (G : GP) (d : Nat) (k : Nat) {B : Nat} {post : Option Nat → HS → Prop} {xp : Nat → Nat → HS → Prop} {y0 : HS} {a0 : Nat} (hw : wp_c4 G k 3 B post xp y0 a0 none) : vx_Met l yX6_not (ws_ yX6_not cX6_not 2 (some (.object "java/lang/Object"))) (rmB (d + k + 233) B) (hPc G y0 [va_rf (some a0)]) (hQq G y0 post) (hX G y0 xp) B (20 * B) (HA y0) := (met_c4 l htr G d k).2.2.2 hw
/-- CaseGrouper$Reader.leaf()LCaseGrouper$Leaf; -/
def wp_X6_leaf (G : GP) (B : Nat) (post : Option Nat → HS → Prop) (xp : Nat → Nat → HS → Prop) (y0 : HS) (a0 : Nat) : Prop := ∃ J1 : HS → Nat → (Option Nat) → Int32 → Bool → (Option Nat) → Prop, (∀ (y3 : HS) (u8 : Nat) (r4 : Option Nat) (x5 : Int32) (b6 : Bool) (r7 : Option Nat), J1 y3 u8 r4 x5 b6 r7 → u8 ≤ B ∧ ∃ J9 : HS → Nat → Prop, (∀ (y11 : HS) (u12 : Nat), J9 y11 u12 → u12 ≤ B ∧ ∃ J13 : HS → Nat → Int32 → (Option Nat) → (Option Nat) → Prop, (∀ (y15 : HS) (u19 : Nat) (x16 : Int32) (r17 : Option Nat) (r18 : Option Nat), J13 y15 u19 x16 r17 r18 → u19 ≤ B ∧ ∃ a20, r17 = some a20 ∧ wp_X13_init G (fun y21 => ∃ f22, fR y21 a0 4 8 f22 ∧ ∃ a23, f22 = some a23 ∧ ∃ f24, fR y21 a23 7 4 f24 ∧ ∃ a25, f24 = some a25 ∧ (∃ fs28, rd G y21 a25 (ob 18 fs28)) ∧ ∃ k29, u19 + k29 ≤ B ∧ wp_J2_add G k29 (fun b27 y26 => post r18 y26) y21 a25 r18) y15 a20 x16) ∧ ((∃ fs32, rd G y11 a0 (ob 4 fs32)) ∧ ∃ k33, u12 + k33 ≤ B ∧ wp_X6_number G k33 (fun x31 y30 => (u12 + k33) + 1 ≤ B ∧ ∀ a35, a35 = y30.2 → ∀ y34, y34 = hnew y30 (ob 11 [.int 0, .int 0]) → (x5 < 0 → ∃ f37, fR y34 a0 4 1 f37 ∧ ∃ a38, f37 = some a38 ∧ (∃ fs41, rd G y34 a38 (ob 1 fs41)) ∧ ∃ k42, ((u12 + k33) + 1) + k42 ≤ B ∧ wp_X2_adds G k42 (fun x40 y39 => J13 y39 ((((u12 + k33) + 1) + k42)) x40 (some a35) (some a35)) y34 a38 r4 x31) ∧ (¬ x5 < 0 → J13 y34 (((u12 + k33) + 1)) x5 (some a35) (some a35))) xp y11 a0 (nI 1) (nI 999))) ∧ (∃ a44, r7 = some a44 ∧ (∃ fs46, rd G y3 a44 (ob 4 fs46)) ∧ ∃ k47, u8 + k47 ≤ B ∧ wp_X6_must G k47 (fun y45 => (∃ fs49, rd G y45 a0 (ob 4 fs49)) ∧ ∃ k50, (u8 + k47) + k50 ≤ B ∧ wp_X6_next G k50 (fun y48 => (x5 < 0 → J9 y48 (((u8 + k47) + k50)) ) ∧ (¬ x5 < 0 → ∃ f52, fR y48 a0 4 4 f52 ∧ ∃ b53, isIn G y48 f52 21 b53 ∧ (b53 = false → J9 y48 (((u8 + k47) + k50)) ) ∧ (b53 = true → isOf G y48 f52 21 ∧ ∃ a55, f52 = some a55 ∧ (∃ fs58, rd G y48 a55 (ob 21 fs58)) ∧ wp_J13_intValue G (fun x57 y56 => wp_X1_within G (fun b60 y59 => (b60 = false → J9 y59 (((u8 + k47) + k50)) ) ∧ (b60 = true → ∃ J62 : HS → Nat → Bool → (Option Nat) → Prop, (∀ (y64 : HS) (u67 : Nat) (b65 : Bool) (r66 : Option Nat), J62 y64 u67 b65 r66 → u67 ≤ B ∧ ∃ a68, r66 = some a68 ∧ (∃ fs70, rd G y64 a68 (ob 4 fs70)) ∧ ∃ k71, u67 + k71 ≤ B ∧ wp_X6_must G k71 (fun y69 => J9 y69 ((u67 + k71)) ) xp y64 a68 b65 (nI 3)) ∧ ((∃ fs74, rd G y59 a55 (ob 21 fs74)) ∧ wp_J13_intValue G (fun x73 y72 => ∃ f75, fR y72 a0 4 1 f75 ∧ ∃ a76, f75 = some a76 ∧ ∃ f77, fR y72 a76 1 6 f77 ∧ ∃ a78, f77 = some a78 ∧ ∃ (n79 : Nat) (g80 : Nat → Int32), rd G y72 a78 (ai 5 n79 g80) ∧ vp_in x5 n79 ∧ (¬ x73 = (g80 x5.toNatClampNeg) → J62 y72 (((u8 + k47) + k50)) false (some a0)) ∧ (x73 = (g80 x5.toNatClampNeg) → J62 y72 (((u8 + k47) + k50)) true (some a0))) y59 a55))) y56 x57 (nI 1) (nI 999)) y48 a55))) y45 a0) xp y3 a44 b6 (nI 4))) ∧ (∃ J84 : HS → Nat → (Option Nat) → Int32 → (Option Nat) → Prop, (∀ (y86 : HS) (u90 : Nat) (r87 : Option Nat) (x88 : Int32) (r89 : Option Nat), J84 y86 u90 r87 x88 r89 → u90 ≤ B ∧ J1 y86 u90 r87 x88 true r89) ∧ (∃ f91, fR y0 a0 4 1 f91 ∧ ∃ a92, f91 = some a92 ∧ ∃ f93, fI y0 a92 1 8 f93 ∧ ∃ fs95, y0.1 a92 = some (ob 1 fs95) ∧ 8 < fs95.length ∧ ∀ y94, y94 = hput y0 a92 (ob 1 (fs95.set 8 (.int (f93 + (nI 1))))) → (∃ fs97, rd G y94 a0 (ob 4 fs97)) ∧ ∃ k98, 0 + k98 ≤ B ∧ wp_X6_next G k98 (fun y96 => (∃ fs101, rd G y96 a0 (ob 4 fs101)) ∧ ∃ k102, (0 + k98) + k102 ≤ B ∧ wp_X6_name G k102 (fun r100 y99 => ∃ f103, fR y99 a0 4 1 f103 ∧ ∃ a104, f103 = some a104 ∧ (∃ fs107, rd G y99 a104 (ob 1 fs107)) ∧ ∃ k108, ((0 + k98) + k102) + k108 ≤ B ∧ wp_X2_classOf G k108 (fun x106 y105 => (0 ≤ x106 → J84 y105 ((((0 + k98) + k102) + k108)) r100 x106 (some a0)) ∧ (¬ 0 ≤ x106 → ∃ f110, fR y105 a0 4 1 f110 ∧ ∃ a111, f110 = some a111 ∧ ∃ f112, fI y105 a111 1 7 f112 ∧ ((nI 16) ≤ f112 → J1 y105 ((((0 + k98) + k102) + k108)) r100 x106 false (some a0)) ∧ (¬ (nI 16) ≤ f112 → J84 y105 ((((0 + k98) + k102) + k108)) r100 x106 (some a0)))) y99 a104 r100) xp y96 a0) y94 a0))
theorem hs_X6_leaf : yX6_leaf.cls ≠ "java/lang/invoke/MethodHandle" ∧ yX6_leaf.cls ≠ "java/lang/invoke/VarHandle" ∧ (parseMethodDescriptor yX6_leaf.desc).map (fun d => d.parameters.length) = some 0 := by decide +kernel
theorem hd_X6_leaf : yX6_leaf.cls = RX6 ∧ yX6_leaf.cls ≠ "java/lang/invoke/MethodHandle" ∧ yX6_leaf.cls ≠ "java/lang/invoke/VarHandle" ∧ (parseMethodDescriptor yX6_leaf.desc).map (fun d => d.parameters.length) = some 0 := by decide +kernel
set_option maxHeartbeats 4000000 in
theorem met_X6_leaf (l : Launch) (htr : l.stackTraces = false) (G : GP) (d : Nat) {B : Nat} {post : Option Nat → HS → Prop} {xp : Nat → Nat → HS → Prop} {y0 : HS} {a0 : Nat} (hw : wp_X6_leaf G B post xp y0 a0) : vx_Met l yX6_leaf (ws_ yX6_leaf cX6_leaf 5 (some (.object "CaseGrouper$Leaf"))) (rmB (d + 231) B) (hPc G y0 [va_rf (some a0)]) (hQq G y0 post) (hX G y0 xp) B (20 * B) (HA y0) := by
  unfold wp_X6_leaf at hw
  refine hv_met (own := RX6) (by decide) rfl (Nat.le_of_ble_eq_true rfl) ?_
  intro p e s m args below meth c ls E hr hlocks hnm hE hK hI hl
  replace hl : lv_has ls 5 [(0, va_rf (some a0))] := hl
  have hu : 0 ≤ B := Nat.zero_le _
  obtain ⟨J1, hj115, hw⟩ := hw
  have jh2 : ∀ (y3 : HS) (u8 : Nat) (r4 : Option Nat) (x5 : Int32) (b6 : Bool) (r7 : Option Nat), J1 y3 u8 r4 x5 b6 r7 → ∀ (H : Heap) (locs : List Loc) (ls : Array Slot), HI G y0 y3 s H locs → lv_has ls 5 [(0, va_rf (some a0)), (1, va_rf r4), (2, .int (x5))] → W p l e (rmB (d + 231) B) s m args below meth c H locs u8 (20 * u8) (vx_MQ below (hQq G y0 post) (hX G y0 xp) args s B (20 * B) (HA y0)) (F0 m 53 ls [.int (bi b6), va_rf r7]) := by
    intro y3 u8 r4 x5 b6 r7 hw H locs ls hI hl
    replace hw := hj115 y3 u8 r4 x5 b6 r7 hw
    obtain ⟨hu, hw⟩ := hw
    obtain ⟨J9, hj83, hw⟩ := hw
    have jh10 : ∀ (y11 : HS) (u12 : Nat), J9 y11 u12 → ∀ (H : Heap) (locs : List Loc) (ls : Array Slot), HI G y0 y11 s H locs → lv_has ls 5 [(0, va_rf (some a0)), (1, va_rf r4), (2, .int (x5))] → W p l e (rmB (d + 231) B) s m args below meth c H locs u12 (20 * u12) (vx_MQ below (hQq G y0 post) (hX G y0 xp) args s B (20 * B) (HA y0)) (F0 m 125 ls []) := by
      intro y11 u12 hw H locs ls hI hl
      replace hw := hj83 y11 u12 hw
      obtain ⟨hu, hw⟩ := hw
      obtain ⟨J13, hj43, hw⟩ := hw
      have jh14 : ∀ (y15 : HS) (u19 : Nat) (x16 : Int32) (r17 : Option Nat) (r18 : Option Nat), J13 y15 u19 x16 r17 r18 → ∀ (H : Heap) (locs : List Loc) (ls : Array Slot), HI G y0 y15 s H locs → lv_has ls 5 [(0, va_rf (some a0))] → W p l e (rmB (d + 231) B) s m args below meth c H locs u19 (20 * u19) (vx_MQ below (hQq G y0 post) (hX G y0 xp) args s B (20 * B) (HA y0)) (F0 m 155 ls [.int (x16), va_rf r17, va_rf r18]) := by
        intro y15 u19 x16 r17 r18 hw H locs ls hI hl
        replace hw := hj43 y15 u19 x16 r17 r18 hw
        obtain ⟨hu, hw⟩ := hw
        obtain ⟨a20, ea20, hw⟩ := hw
        revert hl hw; subst ea20; intro hl hw
        have hq := hw
        clear hw
        refine hv_callv (u := u19) (B1 := 0) hI (vx_runI (b := a20) (As := [.int (x16)]) (rest := [va_rf r18]) E (met_X13_init l G (d + 229) hq) (cwI 1 E.2.2.2.2 (lw_meth q1087) rfl rfl rfl (E.2.2.2.2 _ q157) (E.2.2.2.2 _ q1085) (E.2.2.2.2 _ q1086) rfl hs_X13_init (rm_ok (by omega) (by decide))) (hv_preS hK hI) rfl rfl hl.1 rfl (lv_room (by first | rfl | decide | (simp [va_rf_cat, int_cat, long_cat]; done) | (simp [va_rf_cat, int_cat, long_cat]; decide))) dX6_leaf_155 (hv_fit (by first | exact hu | omega))) (fun _ _ _ _ _ h => h.elim) (fun y21 H locs hw hI => ?_)
        refine hv_astore (r := r18) (lv' := [(4, va_rf r18), (0, va_rf (some a0))]) E.1 E.2.1 dX6_leaf_158 hl (Nat.le_of_ble_eq_true rfl) (by first | rfl | decide | (simp [va_rf_cat, int_cat, long_cat]; done) | (simp [va_rf_cat, int_cat, long_cat]; decide)) (fun ls hl => ?_)
        refine hv_aload_n (r := some a0) E.1 E.2.1 dX6_leaf_160 rfl (lv_at hl 1 rfl) ?_
        obtain ⟨f22, ⟨fs, hfs, hfk⟩, hw⟩ := hw
        refine hv_get (v := va_rf f22) E hK hI ciX6 8 (Nat.le_of_ble_eq_true rfl) q286 (fun _ h => h) (Or.inl hfs) hfk dX6_leaf_161 ?_
        obtain ⟨a23, ea23, hw⟩ := hw
        revert hl hw; subst ea23; intro hl hw
        obtain ⟨f24, ⟨fs, hfs, hfk⟩, hw⟩ := hw
        refine hv_getN (v := va_rf f24) E hK hI ciX9 4 (Nat.le_of_ble_eq_true rfl) q819 (fun _ h => h) (Or.inl hfs) hfk dX6_leaf_164 ?_
        refine hv_aload (r := r18) E.1 E.2.1 dX6_leaf_167 (lv_at hl 0 rfl) ?_
        obtain ⟨a25, ea25, hw⟩ := hw
        revert hl hw; subst ea25; intro hl hw
        obtain ⟨⟨fs28, hrv⟩, hw⟩ := hw
        obtain ⟨k29, hB, hw⟩ := hw
        have hq := hw
        clear hw
        refine hv_callz (u := u19) (B1 := k29) hI (vx_runV (As := [va_rf r18]) (rest := []) E (met_J2_add l G (d + 224) hq) (cwV 1 E.2.2.2.2 (lw_V q909 q910 q911 q124 q912) rfl rfl rfl hd_J2_add (rm_ok (by omega) (by decide))) (hv_preV hK hI hrv rfl) rfl rfl hl.1 rfl (lv_room (by first | rfl | decide | (simp [va_rf_cat, int_cat, long_cat]; done) | (simp [va_rf_cat, int_cat, long_cat]; decide))) dX6_leaf_169 (hv_fit (by first | exact hB | omega))) (fun _ _ _ _ _ h => h.elim) (fun b27 y26 H locs hw hI => ?_)
        have hu := hB
        refine lv_pop E.1 E.2.1 dX6_leaf_172 rfl ?_
        refine hv_aload (r := r18) E.1 E.2.1 dX6_leaf_173 (lv_at hl 0 rfl) ?_
        exact hv_aret (r := r18) E hr (Or.inl ⟨_, rfl⟩) hlocks hI hu hw dX6_leaf_175
      refine hv_aload_n (r := some a0) E.1 E.2.1 dX6_leaf_125 rfl (lv_at hl 0 rfl) ?_
      refine lv_iconst (v := nI 1) E.1 E.2.1 dX6_leaf_126 rfl ?_
      refine lv_sipush (v := nI 999) E.1 E.2.1 dX6_leaf_127 rfl ?_
      obtain ⟨⟨fs32, hrv⟩, hw⟩ := hw
      obtain ⟨k33, hB, hw⟩ := hw
      have hq := hw
      clear hw
      refine hv_calli (u := u12) (B1 := k33) hI (vx_runVX (As := [.int (nI 1), .int (nI 999)]) (rest := []) E (met_X6_number l htr G (d) hq) (vx_cwVW 2 E.2.2.2.2 (lw_VW q987 q989 qs25 q129 q990) rfl rfl rfl hd_X6_number (rm_ok (by omega) (by decide))) (hv_preV hK hI hrv rfl) rfl rfl hl.1 rfl (lv_room (by first | rfl | decide | (simp [va_rf_cat, int_cat, long_cat]; done) | (simp [va_rf_cat, int_cat, long_cat]; decide))) dX6_leaf_130 (hv_fit (by first | exact hB | omega))) (fun ec q y1 H locs hx hI hc => hv_out hE hlocks hI hc (by first | exact hB | omega) hx) (fun x31 y30 H locs hw hI => ?_)
      have hu := hB
      refine lv_istore_n (lv' := [(3, .int (x31)), (0, va_rf (some a0)), (1, va_rf r4), (2, .int (x5))]) E.1 E.2.1 dX6_leaf_133 rfl hl (Nat.le_of_ble_eq_true rfl) (by first | rfl | decide | (simp [va_rf_cat, int_cat, long_cat]; done) | (simp [va_rf_cat, int_cat, long_cat]; decide)) (fun ls hl => ?_)
      obtain ⟨hu, hw⟩ := hw
      refine hv_new (fs := [.int 0, .int 0]) E hK hI ciX13 q1079 q1080 q157 (df11) (Nat.le_of_ble_eq_true rfl) hu dX6_leaf_134 (fun H hI => ?_)
      obtain ⟨a35, ea35⟩ : ∃ w, w = y30.2 := ⟨_, rfl⟩
      obtain ⟨y34, ey34⟩ : ∃ w, w = hnew y30 (ob 11 [.int 0, .int 0]) := ⟨_, rfl⟩
      rw [← ea35]
      rw [← ey34] at hI
      replace hw := hw a35 ea35 y34 ey34
      refine hv_dup E.1 E.2.1 dX6_leaf_137 ?_
      refine lv_iload_n E.1 E.2.1 dX6_leaf_138 rfl (lv_at hl 3 rfl) ?_
      refine lv_if_lt (tgt := 146) E.1 E.2.1 dX6_leaf_139 (by decide) (fun c36 => ?_) (fun c36 => ?_)
      · replace hw := hw.1 (c36)
        refine hv_aload_n (r := some a0) E.1 E.2.1 dX6_leaf_146 rfl (lv_at hl 1 rfl) ?_
        obtain ⟨f37, ⟨fs, hfs, hfk⟩, hw⟩ := hw
        refine hv_get (v := va_rf f37) E hK hI ciX6 1 (Nat.le_of_ble_eq_true rfl) q278 (fun _ h => h) (Or.inl hfs) hfk dX6_leaf_147 ?_
        refine hv_aload_n (r := r4) E.1 E.2.1 dX6_leaf_150 rfl (lv_at hl 2 rfl) ?_
        refine lv_iload_n E.1 E.2.1 dX6_leaf_151 rfl (lv_at hl 0 rfl) ?_
        obtain ⟨a38, ea38, hw⟩ := hw
        revert hl hw; subst ea38; intro hl hw
        obtain ⟨⟨fs41, hrv⟩, hw⟩ := hw
        obtain ⟨k42, hB, hw⟩ := hw
        have hq := hw
        clear hw
        refine hv_calli (u := (((u12 + k33) + 1))) (B1 := k42) hI (vx_runV (As := [va_rf r4, .int (x31)]) (rest := [va_rf (some a35), va_rf (some a35)]) E (met_X2_adds l G (d + 227) hq) (cwV 2 E.2.2.2.2 (lw_V q1081 q1082 q1083 q125 q1084) rfl rfl rfl hd_X2_adds (rm_ok (by omega) (by decide))) (hv_preV hK hI hrv rfl) rfl rfl hl.1 rfl (lv_room (by first | rfl | decide | (simp [va_rf_cat, int_cat, long_cat]; done) | (simp [va_rf_cat, int_cat, long_cat]; decide))) dX6_leaf_152 (hv_fit (by first | exact hB | omega))) (fun _ _ _ _ _ h => h.elim) (fun x40 y39 H locs hw hI => ?_)
        have hu := hB
        exact jh14 _ _ _ _ _ hw _ _ _ hI (lv_sub hl [1] rfl)
      · replace hw := hw.2 (c36)
        refine lv_iload_n E.1 E.2.1 dX6_leaf_142 rfl (lv_at hl 3 rfl) ?_
        refine lv_goto (tgt := 155) E.1 E.2.1 dX6_leaf_143 (by decide) ?_
        exact jh14 _ _ _ _ _ hw _ _ _ hI (lv_sub hl [1] rfl)
    refine lv_iconst (v := nI 4) E.1 E.2.1 dX6_leaf_53 rfl ?_
    obtain ⟨a44, ea44, hw⟩ := hw
    revert hl hw; subst ea44; intro hl hw
    obtain ⟨⟨fs46, hrv⟩, hw⟩ := hw
    obtain ⟨k47, hB, hw⟩ := hw
    have hq := hw
    clear hw
    refine hv_callv (u := u8) (B1 := k47) hI (vx_runV (As := [.int (bi b6), .int (nI 4)]) (rest := []) E (met_X6_must l htr G (d + 225) hq) (cwV 2 E.2.2.2.2 (lw_V q594 q596 qs9 q129 q597) rfl rfl rfl hd_X6_must (rm_ok (by omega) (by decide))) (hv_preV hK hI hrv rfl) rfl rfl hl.1 rfl (lv_room (by first | rfl | decide | (simp [va_rf_cat, int_cat, long_cat]; done) | (simp [va_rf_cat, int_cat, long_cat]; decide))) dX6_leaf_54 (hv_fit (by first | exact hB | omega))) (fun ec q y1 H locs hx hI hc => hv_out hE hlocks hI hc (by first | exact hB | omega) hx) (fun y45 H locs hw hI => ?_)
    have hu := hB
    refine hv_aload_n (r := some a0) E.1 E.2.1 dX6_leaf_57 rfl (lv_at hl 0 rfl) ?_
    obtain ⟨⟨fs49, hrv⟩, hw⟩ := hw
    obtain ⟨k50, hB, hw⟩ := hw
    have hq := hw
    clear hw
    refine hv_callv (u := ((u8 + k47))) (B1 := k50) hI (vx_runV (As := []) (rest := []) E (met_X6_next l htr G (d + 223) hq) (cwV 0 E.2.2.2.2 (lw_V q314 q316 qs1 q129 q317) rfl rfl rfl hd_X6_next (rm_ok (by omega) (by decide))) (hv_preV hK hI hrv rfl) rfl rfl hl.1 rfl (lv_room (by first | rfl | decide | (simp [va_rf_cat, int_cat, long_cat]; done) | (simp [va_rf_cat, int_cat, long_cat]; decide))) dX6_leaf_58 (hv_fit (by first | exact hB | omega))) (fun _ _ _ _ _ h => h.elim) (fun y48 H locs hw hI => ?_)
    have hu := hB
    refine lv_iload_n E.1 E.2.1 dX6_leaf_61 rfl (lv_at hl 2 rfl) ?_
    refine lv_if_lt (tgt := 125) E.1 E.2.1 dX6_leaf_62 (by decide) (fun c51 => ?_) (fun c51 => ?_)
    · replace hw := hw.1 (c51)
      exact jh10 _ _ hw _ _ _ hI (lv_sub hl [0, 1, 2] rfl)
    · replace hw := hw.2 (c51)
      refine hv_aload_n (r := some a0) E.1 E.2.1 dX6_leaf_65 rfl (lv_at hl 0 rfl) ?_
      obtain ⟨f52, ⟨fs, hfs, hfk⟩, hw⟩ := hw
      refine hv_get (v := va_rf f52) E hK hI ciX6 4 (Nat.le_of_ble_eq_true rfl) q281 (fun _ h => h) (Or.inl hfs) hfk dX6_leaf_66 ?_
      refine hv_astore (r := f52) (lv' := [(4, va_rf f52), (0, va_rf (some a0)), (1, va_rf r4), (2, .int (x5))]) E.1 E.2.1 dX6_leaf_69 hl (Nat.le_of_ble_eq_true rfl) (by first | rfl | decide | (simp [va_rf_cat, int_cat, long_cat]; done) | (simp [va_rf_cat, int_cat, long_cat]; decide)) (fun ls hl => ?_)
      refine hv_aload (r := f52) E.1 E.2.1 dX6_leaf_71 (lv_at hl 0 rfl) ?_
      obtain ⟨b53, hin, hw⟩ := hw
      refine hv_inst (cn := 21) E hK hI (by decide) q991 hin dX6_leaf_73 ?_
      refine lv_if_eq (tgt := 125) E.1 E.2.1 dX6_leaf_76 (by decide) (fun c54 => ?_) (fun c54 => ?_)
      · replace hw := hw.1 (bi_z c54)
        exact jh10 _ _ hw _ _ _ hI (lv_sub hl [1, 2, 3] rfl)
      · replace hw := hw.2 (bi_n c54)
        refine hv_aload (r := f52) E.1 E.2.1 dX6_leaf_79 (lv_at hl 0 rfl) ?_
        obtain ⟨hof, hw⟩ := hw
        refine hv_castC (cn := 21) E hK hI (by decide) q991 hof dX6_leaf_81 ?_
        refine hv_astore_n (r := f52) (lv' := [(3, va_rf f52), (4, va_rf f52), (0, va_rf (some a0)), (1, va_rf r4), (2, .int (x5))]) E.1 E.2.1 dX6_leaf_84 rfl hl (Nat.le_of_ble_eq_true rfl) (by first | rfl | decide | (simp [va_rf_cat, int_cat, long_cat]; done) | (simp [va_rf_cat, int_cat, long_cat]; decide)) (fun ls hl => ?_)
        refine hv_aload_n (r := f52) E.1 E.2.1 dX6_leaf_85 rfl (lv_at hl 0 rfl) ?_
        obtain ⟨a55, ea55, hw⟩ := hw
        revert hl hw; subst ea55; intro hl hw
        obtain ⟨⟨fs58, hrv⟩, hw⟩ := hw
        have hq := hw
        clear hw
        refine hv_calli (u := (((u8 + k47) + k50))) (B1 := 0) hI (vx_runV (As := []) (rest := []) E (met_J13_intValue l G (d + 230) hq) (cwV 0 E.2.2.2.2 (lw_V q992 q993 q994 q141 q995) rfl rfl rfl hd_J13_intValue (rm_ok (by omega) (by decide))) (hv_preV hK hI hrv rfl) rfl rfl hl.1 rfl (lv_room (by first | rfl | decide | (simp [va_rf_cat, int_cat, long_cat]; done) | (simp [va_rf_cat, int_cat, long_cat]; decide))) dX6_leaf_86 (hv_fit (by first | exact hu | omega))) (fun _ _ _ _ _ h => h.elim) (fun x57 y56 H locs hw hI => ?_)
        refine lv_iconst (v := nI 1) E.1 E.2.1 dX6_leaf_89 rfl ?_
        refine lv_sipush (v := nI 999) E.1 E.2.1 dX6_leaf_90 rfl ?_
        have hq := hw
        clear hw
        refine hv_callz (u := (((u8 + k47) + k50))) (B1 := 0) hI (vx_runSN (As := [.int (x57), .int (nI 1), .int (nI 999)]) (rest := []) E (met_X1_within l G (d + 230) hq) ⟨va_cnB 3 E.2.2.2.2 (lw_meth q182) rfl rfl rfl (hK.2.2.2.2.1 _ q326 rfl) (E.2.2.2.2 _ q121) hs_X1_within (rm_ok (by omega) (by decide)), E.2.2.2.2 _ q181, trivial⟩ (hv_preS hK hI) rfl rfl hl.1 rfl (lv_room (by first | rfl | decide | (simp [va_rf_cat, int_cat, long_cat]; done) | (simp [va_rf_cat, int_cat, long_cat]; decide))) dX6_leaf_93 (hv_fit (by first | exact hu | omega))) (fun _ _ _ _ _ h => h.elim) (fun b60 y59 H locs hw hI => ?_)
        refine lv_if_eq (tgt := 125) E.1 E.2.1 dX6_leaf_96 (by decide) (fun c61 => ?_) (fun c61 => ?_)
        · replace hw := hw.1 (bi_z c61)
          exact jh10 _ _ hw _ _ _ hI (lv_sub hl [2, 3, 4] rfl)
        · replace hw := hw.2 (bi_n c61)
          obtain ⟨J62, hj82, hw⟩ := hw
          have jh63 : ∀ (y64 : HS) (u67 : Nat) (b65 : Bool) (r66 : Option Nat), J62 y64 u67 b65 r66 → ∀ (H : Heap) (locs : List Loc) (ls : Array Slot), HI G y0 y64 s H locs → lv_has ls 5 [(0, va_rf (some a0)), (1, va_rf r4), (2, .int (x5))] → W p l e (rmB (d + 231) B) s m args below meth c H locs u67 (20 * u67) (vx_MQ below (hQq G y0 post) (hX G y0 xp) args s B (20 * B) (HA y0)) (F0 m 121 ls [.int (bi b65), va_rf r66]) := by
            intro y64 u67 b65 r66 hw H locs ls hI hl
            replace hw := hj82 y64 u67 b65 r66 hw
            obtain ⟨hu, hw⟩ := hw
            refine lv_iconst (v := nI 3) E.1 E.2.1 dX6_leaf_121 rfl ?_
            obtain ⟨a68, ea68, hw⟩ := hw
            revert hl hw; subst ea68; intro hl hw
            obtain ⟨⟨fs70, hrv⟩, hw⟩ := hw
            obtain ⟨k71, hB, hw⟩ := hw
            have hq := hw
            clear hw
            refine hv_callv (u := u67) (B1 := k71) hI (vx_runV (As := [.int (bi b65), .int (nI 3)]) (rest := []) E (met_X6_must l htr G (d + 225) hq) (cwV 2 E.2.2.2.2 (lw_V q594 q596 qs9 q129 q597) rfl rfl rfl hd_X6_must (rm_ok (by omega) (by decide))) (hv_preV hK hI hrv rfl) rfl rfl hl.1 rfl (lv_room (by first | rfl | decide | (simp [va_rf_cat, int_cat, long_cat]; done) | (simp [va_rf_cat, int_cat, long_cat]; decide))) dX6_leaf_122 (hv_fit (by first | exact hB | omega))) (fun ec q y1 H locs hx hI hc => hv_out hE hlocks hI hc (by first | exact hB | omega) hx) (fun y69 H locs hw hI => ?_)
            have hu := hB
            exact jh10 _ _ hw _ _ _ hI (lv_sub hl [0, 1, 2] rfl)
          refine hv_aload_n (r := some a0) E.1 E.2.1 dX6_leaf_99 rfl (lv_at hl 2 rfl) ?_
          refine hv_aload_n (r := some a55) E.1 E.2.1 dX6_leaf_100 rfl (lv_at hl 0 rfl) ?_
          obtain ⟨⟨fs74, hrv⟩, hw⟩ := hw
          have hq := hw
          clear hw
          refine hv_calli (u := (((u8 + k47) + k50))) (B1 := 0) hI (vx_runV (As := []) (rest := [va_rf (some a0)]) E (met_J13_intValue l G (d + 230) hq) (cwV 0 E.2.2.2.2 (lw_V q992 q993 q994 q141 q995) rfl rfl rfl hd_J13_intValue (rm_ok (by omega) (by decide))) (hv_preV hK hI hrv rfl) rfl rfl hl.1 rfl (lv_room (by first | rfl | decide | (simp [va_rf_cat, int_cat, long_cat]; done) | (simp [va_rf_cat, int_cat, long_cat]; decide))) dX6_leaf_101 (hv_fit (by first | exact hu | omega))) (fun _ _ _ _ _ h => h.elim) (fun x73 y72 H locs hw hI => ?_)
          refine hv_aload_n (r := some a0) E.1 E.2.1 dX6_leaf_104 rfl (lv_at hl 2 rfl) ?_
          obtain ⟨f75, ⟨fs, hfs, hfk⟩, hw⟩ := hw
          refine hv_get (v := va_rf f75) E hK hI ciX6 1 (Nat.le_of_ble_eq_true rfl) q278 (fun _ h => h) (Or.inl hfs) hfk dX6_leaf_105 ?_
          obtain ⟨a76, ea76, hw⟩ := hw
          revert hl hw; subst ea76; intro hl hw
          obtain ⟨f77, ⟨fs, hfs, hfk⟩, hw⟩ := hw
          refine hv_getN (v := va_rf f77) E hK hI ciX2 6 (Nat.le_of_ble_eq_true rfl) q250 (fun _ h => h) (Or.inl hfs) hfk dX6_leaf_108 ?_
          refine lv_iload_n E.1 E.2.1 dX6_leaf_111 rfl (lv_at hl 4 rfl) ?_
          obtain ⟨a78, ea78, hw⟩ := hw
          revert hl hw; subst ea78; intro hl hw
          obtain ⟨n79, g80, hra, hin, hw⟩ := hw
          refine hv_sald E hK hI hra hin dX6_leaf_112 ?_
          refine lv_icmp_ne (tgt := 120) E.1 E.2.1 dX6_leaf_113 (by decide) (fun c81 => ?_) (fun c81 => ?_)
          · replace hw := hw.1 (c81)
            refine lv_iconst (v := nI 0) E.1 E.2.1 dX6_leaf_120 rfl ?_
            exact jh63 _ _ _ _ hw _ _ _ hI (lv_sub hl [2, 3, 4] rfl)
          · replace hw := hw.2 (c81)
            refine lv_iconst (v := nI 1) E.1 E.2.1 dX6_leaf_116 rfl ?_
            refine lv_goto (tgt := 121) E.1 E.2.1 dX6_leaf_117 (by decide) ?_
            exact jh63 _ _ _ _ hw _ _ _ hI (lv_sub hl [2, 3, 4] rfl)
  obtain ⟨J84, hj114, hw⟩ := hw
  have jh85 : ∀ (y86 : HS) (u90 : Nat) (r87 : Option Nat) (x88 : Int32) (r89 : Option Nat), J84 y86 u90 r87 x88 r89 → ∀ (H : Heap) (locs : List Loc) (ls : Array Slot), HI G y0 y86 s H locs → lv_has ls 5 [(0, va_rf (some a0)), (1, va_rf r87), (2, .int (x88))] → W p l e (rmB (d + 231) B) s m args below meth c H locs u90 (20 * u90) (vx_MQ below (hQq G y0 post) (hX G y0 xp) args s B (20 * B) (HA y0)) (F0 m 48 ls [va_rf r89]) := by
    intro y86 u90 r87 x88 r89 hw H locs ls hI hl
    replace hw := hj114 y86 u90 r87 x88 r89 hw
    obtain ⟨hu, hw⟩ := hw
    refine lv_iconst (v := nI 1) E.1 E.2.1 dX6_leaf_48 rfl ?_
    refine lv_goto (tgt := 53) E.1 E.2.1 dX6_leaf_49 (by decide) ?_
    exact jh2 _ _ _ _ _ _ hw _ _ _ hI (lv_sub hl [0, 1, 2] rfl)
  refine hv_aload_n (r := some a0) E.1 E.2.1 dX6_leaf_0 rfl (lv_at hl 0 rfl) ?_
  obtain ⟨f91, ⟨fs, hfs, hfk⟩, hw⟩ := hw
  refine hv_get (v := va_rf f91) E hK hI ciX6 1 (Nat.le_of_ble_eq_true rfl) q278 (fun _ h => h) (Or.inl hfs) hfk dX6_leaf_1 ?_
  refine hv_dup E.1 E.2.1 dX6_leaf_4 ?_
  obtain ⟨a92, ea92, hw⟩ := hw
  revert hl hw; subst ea92; intro hl hw
  obtain ⟨f93, ⟨fs, hfs, hfk⟩, hw⟩ := hw
  refine hv_getN (v := .int f93) E hK hI ciX2 8 (Nat.le_of_ble_eq_true rfl) q255 (fun _ h => h) (Or.inl hfs) hfk dX6_leaf_5 ?_
  refine lv_iconst (v := nI 1) E.1 E.2.1 dX6_leaf_8 rfl ?_
  refine lv_iadd E.1 E.2.1 dX6_leaf_9 ?_
  obtain ⟨fs95, hfs, hln, hw⟩ := hw
  refine hv_putN (v := .int (f93 + (nI 1))) E hK hI ciX2 8 (Nat.le_of_ble_eq_true rfl) q255 (fun _ h => h) rfl rfl rfl hfs hln dX6_leaf_10 (fun H locs hI => ?_)
  obtain ⟨y94, ey94⟩ : ∃ w, w = hput y0 a92 (ob 1 (fs95.set 8 (.int (f93 + (nI 1))))) := ⟨_, rfl⟩
  rw [← ey94] at hI
  replace hw := hw y94 ey94
  refine hv_aload_n (r := some a0) E.1 E.2.1 dX6_leaf_13 rfl (lv_at hl 0 rfl) ?_
  obtain ⟨⟨fs97, hrv⟩, hw⟩ := hw
  obtain ⟨k98, hB, hw⟩ := hw
  have hq := hw
  clear hw
  refine hv_callv (u := 0) (B1 := k98) hI (vx_runV (As := []) (rest := []) E (met_X6_next l htr G (d + 223) hq) (cwV 0 E.2.2.2.2 (lw_V q314 q316 qs1 q129 q317) rfl rfl rfl hd_X6_next (rm_ok (by omega) (by decide))) (hv_preV hK hI hrv rfl) rfl rfl hl.1 rfl (lv_room (by first | rfl | decide | (simp [va_rf_cat, int_cat, long_cat]; done) | (simp [va_rf_cat, int_cat, long_cat]; decide))) dX6_leaf_14 (hv_fit (by first | exact hB | omega))) (fun _ _ _ _ _ h => h.elim) (fun y96 H locs hw hI => ?_)
  have hu := hB
  refine hv_aload_n (r := some a0) E.1 E.2.1 dX6_leaf_17 rfl (lv_at hl 0 rfl) ?_
  obtain ⟨⟨fs101, hrv⟩, hw⟩ := hw
  obtain ⟨k102, hB, hw⟩ := hw
  have hq := hw
  clear hw
  refine hv_callq (u := ((0 + k98))) (B1 := k102) hI (vx_runV (As := []) (rest := []) E (met_X6_name l htr G (d + 224) hq) (cwV 0 E.2.2.2.2 (lw_V q755 q757 qs14 q129 q758) rfl rfl rfl hd_X6_name (rm_ok (by omega) (by decide))) (hv_preV hK hI hrv rfl) rfl rfl hl.1 rfl (lv_room (by first | rfl | decide | (simp [va_rf_cat, int_cat, long_cat]; done) | (simp [va_rf_cat, int_cat, long_cat]; decide))) dX6_leaf_18 (hv_fit (by first | exact hB | omega))) (fun ec q y1 H locs hx hI hc => hv_out hE hlocks hI hc (by first | exact hB | omega) hx) (fun r100 y99 H locs hw hI => ?_)
  have hu := hB
  refine hv_astore_n (r := r100) (lv' := [(1, va_rf r100), (0, va_rf (some a0))]) E.1 E.2.1 dX6_leaf_21 rfl hl (Nat.le_of_ble_eq_true rfl) (by first | rfl | decide | (simp [va_rf_cat, int_cat, long_cat]; done) | (simp [va_rf_cat, int_cat, long_cat]; decide)) (fun ls hl => ?_)
  refine hv_aload_n (r := some a0) E.1 E.2.1 dX6_leaf_22 rfl (lv_at hl 1 rfl) ?_
  obtain ⟨f103, ⟨fs, hfs, hfk⟩, hw⟩ := hw
  refine hv_get (v := va_rf f103) E hK hI ciX6 1 (Nat.le_of_ble_eq_true rfl) q278 (fun _ h => h) (Or.inl hfs) hfk dX6_leaf_23 ?_
  refine hv_aload_n (r := r100) E.1 E.2.1 dX6_leaf_26 rfl (lv_at hl 0 rfl) ?_
  obtain ⟨a104, ea104, hw⟩ := hw
  revert hl hw; subst ea104; intro hl hw
  obtain ⟨⟨fs107, hrv⟩, hw⟩ := hw
  obtain ⟨k108, hB, hw⟩ := hw
  have hq := hw
  clear hw
  refine hv_calli (u := (((0 + k98) + k102))) (B1 := k108) hI (vx_runV (As := [va_rf r100]) (rest := []) E (met_X2_classOf l G (d + 227) hq) (cwV 1 E.2.2.2.2 (lw_V q1055 q1056 q1057 q125 q1058) rfl rfl rfl hd_X2_classOf (rm_ok (by omega) (by decide))) (hv_preV hK hI hrv rfl) rfl rfl hl.1 rfl (lv_room (by first | rfl | decide | (simp [va_rf_cat, int_cat, long_cat]; done) | (simp [va_rf_cat, int_cat, long_cat]; decide))) dX6_leaf_27 (hv_fit (by first | exact hB | omega))) (fun _ _ _ _ _ h => h.elim) (fun x106 y105 H locs hw hI => ?_)
  have hu := hB
  refine lv_istore_n (lv' := [(2, .int (x106)), (1, va_rf r100), (0, va_rf (some a0))]) E.1 E.2.1 dX6_leaf_30 rfl hl (Nat.le_of_ble_eq_true rfl) (by first | rfl | decide | (simp [va_rf_cat, int_cat, long_cat]; done) | (simp [va_rf_cat, int_cat, long_cat]; decide)) (fun ls hl => ?_)
  refine hv_aload_n (r := some a0) E.1 E.2.1 dX6_leaf_31 rfl (lv_at hl 2 rfl) ?_
  refine lv_iload_n E.1 E.2.1 dX6_leaf_32 rfl (lv_at hl 0 rfl) ?_
  refine lv_if_ge (tgt := 48) E.1 E.2.1 dX6_leaf_33 (by decide) (fun c109 => ?_) (fun c109 => ?_)
  · replace hw := hw.1 (c109)
    exact jh85 _ _ _ _ _ hw _ _ _ hI (lv_sub hl [2, 1, 0] rfl)
  · replace hw := hw.2 (c109)
    refine hv_aload_n (r := some a0) E.1 E.2.1 dX6_leaf_36 rfl (lv_at hl 2 rfl) ?_
    obtain ⟨f110, ⟨fs, hfs, hfk⟩, hw⟩ := hw
    refine hv_get (v := va_rf f110) E hK hI ciX6 1 (Nat.le_of_ble_eq_true rfl) q278 (fun _ h => h) (Or.inl hfs) hfk dX6_leaf_37 ?_
    obtain ⟨a111, ea111, hw⟩ := hw
    revert hl hw; subst ea111; intro hl hw
    obtain ⟨f112, ⟨fs, hfs, hfk⟩, hw⟩ := hw
    refine hv_getN (v := .int f112) E hK hI ciX2 7 (Nat.le_of_ble_eq_true rfl) q253 (fun _ h => h) (Or.inl hfs) hfk dX6_leaf_40 ?_
    refine lv_bipush (v := nI 16) E.1 E.2.1 dX6_leaf_43 rfl ?_
    refine lv_icmp_ge (tgt := 52) E.1 E.2.1 dX6_leaf_45 (by decide) (fun c113 => ?_) (fun c113 => ?_)
    · replace hw := hw.1 (c113)
      refine lv_iconst (v := nI 0) E.1 E.2.1 dX6_leaf_52 rfl ?_
      exact jh2 _ _ _ _ _ _ hw _ _ _ hI (lv_sub hl [2, 1, 0] rfl)
    · replace hw := hw.2 (c113)
      exact jh85 _ _ _ _ _ hw _ _ _ hI (lv_sub hl [2, 1, 0] rfl)
/-- CaseGrouper$Reader.word(Ljava/lang/String;)V -/
def wp_X6_word (G : GP) (B : Nat) (post : HS → Prop) (xp : Nat → Nat → HS → Prop) (y0 : HS) (a0 : Nat) (p1 : Option Nat) : Prop := (∃ fs3, rd G y0 a0 (ob 4 fs3)) ∧ wp_X6_isWord G (fun b2 y1 => (∃ fs5, rd G y1 a0 (ob 4 fs5)) ∧ ∃ k6, 0 + k6 ≤ B ∧ wp_X6_must G k6 (fun y4 => (∃ fs8, rd G y4 a0 (ob 4 fs8)) ∧ ∃ k9, (0 + k6) + k9 ≤ B ∧ wp_X6_next G k9 (fun y7 => post y7) y4 a0) xp y1 a0 b2 (nI 1)) y0 a0 p1
theorem hs_X6_word : yX6_word.cls ≠ "java/lang/invoke/MethodHandle" ∧ yX6_word.cls ≠ "java/lang/invoke/VarHandle" ∧ (parseMethodDescriptor yX6_word.desc).map (fun d => d.parameters.length) = some 1 := by decide +kernel
theorem hd_X6_word : yX6_word.cls = RX6 ∧ yX6_word.cls ≠ "java/lang/invoke/MethodHandle" ∧ yX6_word.cls ≠ "java/lang/invoke/VarHandle" ∧ (parseMethodDescriptor yX6_word.desc).map (fun d => d.parameters.length) = some 1 := by decide +kernel
set_option maxHeartbeats 4000000 in
theorem met_X6_word (l : Launch) (htr : l.stackTraces = false) (G : GP) (d : Nat) {B : Nat} {post : HS → Prop} {xp : Nat → Nat → HS → Prop} {y0 : HS} {a0 : Nat} {p1 : Option Nat} (hw : wp_X6_word G B post xp y0 a0 p1) : vx_Met l yX6_word (ws_ yX6_word cX6_word 2 none) (rmB (d + 8) B) (hPc G y0 [va_rf (some a0), va_rf p1]) (hQv G y0 post) (hX G y0 xp) B (20 * B) (HA y0) := by
  unfold wp_X6_word at hw
  refine hv_met (own := RX6) (by decide) rfl (by simp [lg_sl, va_rf_cat, int_cat, long_cat]) ?_
  intro p e s m args below meth c ls E hr hlocks hnm hE hK hI hl
  replace hl : lv_has ls 2 [(0, va_rf (some a0)), (1, va_rf p1)] := by simpa [lv_args, va_rf_cat, int_cat, long_cat] using hl
  have hu : 0 ≤ B := Nat.zero_le _
  refine hv_aload_n (r := some a0) E.1 E.2.1 dX6_word_0 rfl (lv_at hl 0 rfl) ?_
  refine hv_aload_n (r := some a0) E.1 E.2.1 dX6_word_1 rfl (lv_at hl 0 rfl) ?_
  refine hv_aload_n (r := p1) E.1 E.2.1 dX6_word_2 rfl (lv_at hl 1 rfl) ?_
  obtain ⟨⟨fs3, hrv⟩, hw⟩ := hw
  have hq := hw
  clear hw
  refine hv_callz (u := 0) (B1 := 0) hI (vx_runV (As := [va_rf p1]) (rest := [va_rf (some a0)]) E (met_X6_isWord l htr G (d + 5) hq) (cwV 1 E.2.2.2.2 (lw_V q892 q894 qs19 q129 q895) rfl rfl rfl hd_X6_isWord (rm_ok (by omega) (by decide))) (hv_preV hK hI hrv rfl) rfl rfl hl.1 rfl (lv_room (by first | rfl | decide | (simp [va_rf_cat, int_cat, long_cat]; done) | (simp [va_rf_cat, int_cat, long_cat]; decide))) dX6_word_3 (hv_fit (by first | exact hu | omega))) (fun _ _ _ _ _ h => h.elim) (fun b2 y1 H locs hw hI => ?_)
  refine lv_iconst (v := nI 1) E.1 E.2.1 dX6_word_6 rfl ?_
  obtain ⟨⟨fs5, hrv⟩, hw⟩ := hw
  obtain ⟨k6, hB, hw⟩ := hw
  have hq := hw
  clear hw
  refine hv_callv (u := 0) (B1 := k6) hI (vx_runV (As := [.int (bi b2), .int (nI 1)]) (rest := []) E (met_X6_must l htr G (d + 2) hq) (cwV 2 E.2.2.2.2 (lw_V q594 q596 qs9 q129 q597) rfl rfl rfl hd_X6_must (rm_ok (by omega) (by decide))) (hv_preV hK hI hrv rfl) rfl rfl hl.1 rfl (lv_room (by first | rfl | decide | (simp [va_rf_cat, int_cat, long_cat]; done) | (simp [va_rf_cat, int_cat, long_cat]; decide))) dX6_word_7 (hv_fit (by first | exact hB | omega))) (fun ec q y1 H locs hx hI hc => hv_out hE hlocks hI hc (by first | exact hB | omega) hx) (fun y4 H locs hw hI => ?_)
  have hu := hB
  refine hv_aload_n (r := some a0) E.1 E.2.1 dX6_word_10 rfl (lv_at hl 0 rfl) ?_
  obtain ⟨⟨fs8, hrv⟩, hw⟩ := hw
  obtain ⟨k9, hB, hw⟩ := hw
  have hq := hw
  clear hw
  refine hv_callv (u := ((0 + k6))) (B1 := k9) hI (vx_runV (As := []) (rest := []) E (met_X6_next l htr G (d) hq) (cwV 0 E.2.2.2.2 (lw_V q314 q316 qs1 q129 q317) rfl rfl rfl hd_X6_next (rm_ok (by omega) (by decide))) (hv_preV hK hI hrv rfl) rfl rfl hl.1 rfl (lv_room (by first | rfl | decide | (simp [va_rf_cat, int_cat, long_cat]; done) | (simp [va_rf_cat, int_cat, long_cat]; decide))) dX6_word_11 (hv_fit (by first | exact hB | omega))) (fun _ _ _ _ _ h => h.elim) (fun y7 H locs hw hI => ?_)
  have hu := hB
  exact hv_vret E hr hlocks hI hu hw dX6_word_14
/-- CaseGrouper$Reader.node()Ljava/lang/Object; -/
def wb_X6_node (G : GP) (rc : Nat → (Option Nat → HS → Prop) → (Nat → Nat → HS → Prop) → HS → Nat → Prop) (B : Nat) (post : Option Nat → HS → Prop) (xp : Nat → Nat → HS → Prop) (y0 : HS) (a0 : Nat) : Prop := (∃ fs3, rd G y0 a0 (ob 4 fs3)) ∧ wp_X6_isSign G (fun b2 y1 => (b2 = false → ∃ J5 : HS → Nat → Bool → Bool → (Option Nat) → Prop, (∀ (y7 : HS) (u11 : Nat) (b8 : Bool) (b9 : Bool) (r10 : Option Nat), J5 y7 u11 b8 b9 r10 → u11 ≤ B ∧ ∃ J12 : HS → Nat → Bool → (Option Nat) → Prop, (∀ (y14 : HS) (u17 : Nat) (b15 : Bool) (r16 : Option Nat), J12 y14 u17 b15 r16 → u17 ≤ B ∧ ∃ a18, r16 = some a18 ∧ (∃ fs20, rd G y14 a18 (ob 4 fs20)) ∧ ∃ k21, u17 + k21 ≤ B ∧ wp_X6_must G k21 (fun y19 => (b8 = false → (∃ fs24, rd G y19 a0 (ob 4 fs24)) ∧ ∃ k25, (u17 + k21) + k25 ≤ B ∧ wp_X6_opens G k25 (fun y23 => ∃ f26, fR y23 a0 4 1 f26 ∧ ∃ a27, f26 = some a27 ∧ ∃ f28, fI y23 a27 1 8 f28 ∧ ∃ fs30, y23.1 a27 = some (ob 1 fs30) ∧ 8 < fs30.length ∧ ∀ y29, y29 = hput y23 a27 (ob 1 (fs30.set 8 (.int (f28 + (nI 1))))) → (∃ fs32, rd G y29 a0 (ob 4 fs32)) ∧ ∃ k33, ((u17 + k21) + k25) + k33 ≤ B ∧ wp_X6_next G k33 (fun y31 => (∃ fs36, rd G y31 a0 (ob 4 fs36)) ∧ ∃ k37, (((u17 + k21) + k25) + k33) + k37 ≤ B ∧ wp_c4 G d_c4 0 k37 (fun r35 y34 => (∃ fs39, rd G y34 a0 (ob 4 fs39)) ∧ ∃ k40, ((((u17 + k21) + k25) + k33) + k37) + k40 ≤ B ∧ wp_X6_word G k40 (fun y38 => (∃ fs43, rd G y38 a0 (ob 4 fs43)) ∧ ∃ k44, (((((u17 + k21) + k25) + k33) + k37) + k40) + k44 ≤ B ∧ rc k44 (fun r42 y41 => (∃ fs46, rd G y41 a0 (ob 4 fs46)) ∧ ∃ k47, ((((((u17 + k21) + k25) + k33) + k37) + k40) + k44) + k47 ≤ B ∧ wp_X6_word G k47 (fun y45 => (((((((u17 + k21) + k25) + k33) + k37) + k40) + k44) + k47) + 1 ≤ B ∧ ∀ a49, a49 = y45.2 → ∀ y48, y48 = hnew y45 (ob 14 [va_rf none, va_rf none]) → ((((((((u17 + k21) + k25) + k33) + k37) + k40) + k44) + k47) + 1) + (1 + 2 / 20) ≤ B ∧ ∀ a51, a51 = y48.2 → ∀ y50, y50 = hnew y48 (ar 6 2 (fun _ => none)) → ∃ (n52 : Nat) (g53 : Nat → Option Nat), y50.1 a51 = some (ar 6 n52 g53) ∧ vp_in (nI 0) n52 ∧ okO G y50 r42 ∧ ∀ y54, y54 = hput y50 a51 (ar 6 n52 (va_up g53 (nI 0).toNatClampNeg r42)) → (∃ fs57, rd G y54 a0 (ob 4 fs57)) ∧ ∃ k58, (((((((((u17 + k21) + k25) + k33) + k37) + k40) + k44) + k47) + 1) + (1 + 2 / 20)) + k58 ≤ B ∧ rc k58 (fun r56 y55 => ∃ (n59 : Nat) (g60 : Nat → Option Nat), y55.1 a51 = some (ar 6 n59 g60) ∧ vp_in (nI 1) n59 ∧ okO G y55 r56 ∧ ∀ y61, y61 = hput y55 a51 (ar 6 n59 (va_up g60 (nI 1).toNatClampNeg r56)) → wp_X16_init G (fun y62 => ∃ f63, fI y62 a0 4 6 f63 ∧ ∃ fs65, y62.1 a0 = some (ob 4 fs65) ∧ 6 < fs65.length ∧ ∀ y64, y64 = hput y62 a0 (ob 4 (fs65.set 6 (.int (f63 - (nI 1))))) → post (some a49) y64) y61 a49 r35 (some a51)) xp y54 a0) xp y41 a0 (some (gK G 7))) xp y38 a0) xp y34 a0 (some (gK G 16))) xp y31 a0 none) y29 a0) xp y19 a0) ∧ (b8 = true → (∃ fs68, rd G y19 a0 (ob 4 fs68)) ∧ ∃ k69, (u17 + k21) + k69 ≤ B ∧ wp_X6_leaf G k69 (fun r67 y66 => post r67 y66) xp y19 a0)) xp y14 a18 b15 (nI 4)) ∧ (∃ a70, r10 = some a70 ∧ (∃ fs72, rd G y7 a70 (ob 4 fs72)) ∧ ∃ k73, u11 + k73 ≤ B ∧ wp_X6_must G k73 (fun y71 => ∃ f74, fR y71 a0 4 1 f74 ∧ ∃ a75, f74 = some a75 ∧ ∃ f76, fI y71 a75 1 8 f76 ∧ ((nI 40) ≤ f76 → J12 y71 ((u11 + k73)) false (some a0)) ∧ (¬ (nI 40) ≤ f76 → J12 y71 ((u11 + k73)) true (some a0))) xp y7 a70 b9 (nI 1))) ∧ (∃ J79 : HS → Nat → Bool → (Option Nat) → Prop, (∀ (y81 : HS) (u84 : Nat) (b82 : Bool) (r83 : Option Nat), J79 y81 u84 b82 r83 → u84 ≤ B ∧ J5 y81 u84 b82 true r83) ∧ ((∃ fs87, rd G y1 a0 (ob 4 fs87)) ∧ wp_X6_isWord G (fun b86 y85 => (b86 = true → J79 y85 0 b86 (some a0)) ∧ (b86 = false → (∃ fs91, rd G y85 a0 (ob 4 fs91)) ∧ wp_X6_isWord G (fun b90 y89 => (b90 = false → J5 y89 0 b86 false (some a0)) ∧ (b90 = true → J79 y89 0 b86 (some a0))) y85 a0 (some (gK G 9)))) y1 a0 (some (gK G 4))))) ∧ (b2 = true → (∃ fs96, rd G y1 a0 (ob 4 fs96)) ∧ ∃ k97, 0 + k97 ≤ B ∧ wp_X6_opens G k97 (fun y95 => (∃ fs99, rd G y95 a0 (ob 4 fs99)) ∧ ∃ k100, (0 + k97) + k100 ≤ B ∧ wp_X6_next G k100 (fun y98 => (∃ fs103, rd G y98 a0 (ob 4 fs103)) ∧ ∃ k104, ((0 + k97) + k100) + k104 ≤ B ∧ rc k104 (fun r102 y101 => (∃ fs106, rd G y101 a0 (ob 4 fs106)) ∧ ∃ k107, (((0 + k97) + k100) + k104) + k107 ≤ B ∧ wp_X6_sign G k107 (fun y105 => ∃ f108, fI y105 a0 4 6 f108 ∧ ∃ fs110, y105.1 a0 = some (ob 4 fs110) ∧ 6 < fs110.length ∧ ∀ y109, y109 = hput y105 a0 (ob 4 (fs110.set 6 (.int (f108 - (nI 1))))) → post r102 y109) xp y101 a0 (nI 41)) xp y98 a0) y95 a0) xp y1 a0)) y0 a0 (nI 40)
theorem hs_X6_node : yX6_node.cls ≠ "java/lang/invoke/MethodHandle" ∧ yX6_node.cls ≠ "java/lang/invoke/VarHandle" ∧ (parseMethodDescriptor yX6_node.desc).map (fun d => d.parameters.length) = some 0 := by decide +kernel
theorem hd_X6_node : yX6_node.cls = RX6 ∧ yX6_node.cls ≠ "java/lang/invoke/MethodHandle" ∧ yX6_node.cls ≠ "java/lang/invoke/VarHandle" ∧ (parseMethodDescriptor yX6_node.desc).map (fun d => d.parameters.length) = some 0 := by decide +kernel
def d_xnode : Nat := 11
def wp_xnode (G : GP) : Nat → Nat → (Option Nat → HS → Prop) → (Nat → Nat → HS → Prop) → HS → Nat → Prop
  | 0 => fun _ _ _ _ _ => False
  | k + 1 => wb_X6_node G (wp_xnode G k)
set_option maxHeartbeats 4000000 in
theorem met_X6_node (l : Launch) (htr : l.stackTraces = false) (G : GP) (d : Nat) : ∀ (k : Nat) {B : Nat} {post : Option Nat → HS → Prop} {xp : Nat → Nat → HS → Prop} {y0 : HS} {a0 : Nat}, wp_xnode G k B post xp y0 a0 → vx_Met l yX6_node (ws_ yX6_node cX6_node 5 (some (.object "java/lang/Object"))) (rmB (d + k + 275) B) (hPc G y0 [va_rf (some a0)]) (hQq G y0 post) (hX G y0 xp) B (20 * B) (HA y0) := by
  intro k
  induction k with
  | zero => intro B post xp y0 a0 hw; exact hw.elim
  | succ k ih =>
    intro B post xp y0 a0 hw
    replace hw : wb_X6_node G (wp_xnode G k) B post xp y0 a0 := hw
    have hD_c4 : d_c4 = 41 := rfl
    unfold wb_X6_node at hw
    refine hv_met (own := RX6) (by decide) rfl (Nat.le_of_ble_eq_true rfl) ?_
    intro p e s m args below meth c ls E hr hlocks hnm hE hK hI hl
    replace hl : lv_has ls 5 [(0, va_rf (some a0))] := hl
    have hu : 0 ≤ B := Nat.zero_le _
    refine hv_aload_n (r := some a0) E.1 E.2.1 dX6_node_0 rfl (lv_at hl 0 rfl) ?_
    refine lv_bipush (v := nI 40) E.1 E.2.1 dX6_node_1 rfl ?_
    obtain ⟨⟨fs3, hrv⟩, hw⟩ := hw
    have hq := hw
    clear hw
    refine hv_callz (u := 0) (B1 := 0) hI (vx_runV (As := [.int (nI 40)]) (rest := []) E (met_X6_isSign l htr G (d + k + 274) hq) (cwV 1 E.2.2.2.2 (lw_V q969 q971 qs23 q129 q972) rfl rfl rfl hd_X6_isSign (rm_ok (by omega) (by decide))) (hv_preV hK hI hrv rfl) rfl rfl hl.1 rfl (lv_room (by first | rfl | decide | (simp [va_rf_cat, int_cat, long_cat]; done) | (simp [va_rf_cat, int_cat, long_cat]; decide))) dX6_node_3 (hv_fit (by first | exact hu | omega))) (fun _ _ _ _ _ h => h.elim) (fun b2 y1 H locs hw hI => ?_)
    refine lv_if_eq (tgt := 40) E.1 E.2.1 dX6_node_6 (by decide) (fun c4 => ?_) (fun c4 => ?_)
    · replace hw := hw.1 (bi_z c4)
      obtain ⟨J5, hj94, hw⟩ := hw
      have jh6 : ∀ (y7 : HS) (u11 : Nat) (b8 : Bool) (b9 : Bool) (r10 : Option Nat), J5 y7 u11 b8 b9 r10 → ∀ (H : Heap) (locs : List Loc) (ls : Array Slot), HI G y0 y7 s H locs → lv_has ls 5 [(0, va_rf (some a0)), (1, .int (bi b8))] → W p l e (rmB (d + (k + 1) + 275) B) s m args below meth c H locs u11 (20 * u11) (vx_MQ below (hQq G y0 post) (hX G y0 xp) args s B (20 * B) (HA y0)) (F0 m 66 ls [.int (bi b9), va_rf r10]) := by
        intro y7 u11 b8 b9 r10 hw H locs ls hI hl
        replace hw := hj94 y7 u11 b8 b9 r10 hw
        obtain ⟨hu, hw⟩ := hw
        obtain ⟨J12, hj78, hw⟩ := hw
        have jh13 : ∀ (y14 : HS) (u17 : Nat) (b15 : Bool) (r16 : Option Nat), J12 y14 u17 b15 r16 → ∀ (H : Heap) (locs : List Loc) (ls : Array Slot), HI G y0 y14 s H locs → lv_has ls 5 [(0, va_rf (some a0)), (1, .int (bi b8))] → W p l e (rmB (d + (k + 1) + 275) B) s m args below meth c H locs u17 (20 * u17) (vx_MQ below (hQq G y0 post) (hX G y0 xp) args s B (20 * B) (HA y0)) (F0 m 88 ls [.int (bi b15), va_rf r16]) := by
          intro y14 u17 b15 r16 hw H locs ls hI hl
          replace hw := hj78 y14 u17 b15 r16 hw
          obtain ⟨hu, hw⟩ := hw
          refine lv_iconst (v := nI 4) E.1 E.2.1 dX6_node_88 rfl ?_
          obtain ⟨a18, ea18, hw⟩ := hw
          revert hl hw; subst ea18; intro hl hw
          obtain ⟨⟨fs20, hrv⟩, hw⟩ := hw
          obtain ⟨k21, hB, hw⟩ := hw
          have hq := hw
          clear hw
          refine hv_callv (u := u17) (B1 := k21) hI (vx_runV (As := [.int (bi b15), .int (nI 4)]) (rest := []) E (met_X6_must l htr G (d + k + 270) hq) (cwV 2 E.2.2.2.2 (lw_V q594 q596 qs9 q129 q597) rfl rfl rfl hd_X6_must (rm_ok (by omega) (by decide))) (hv_preV hK hI hrv rfl) rfl rfl hl.1 rfl (lv_room (by first | rfl | decide | (simp [va_rf_cat, int_cat, long_cat]; done) | (simp [va_rf_cat, int_cat, long_cat]; decide))) dX6_node_89 (hv_fit (by first | exact hB | omega))) (fun ec q y1 H locs hx hI hc => hv_out hE hlocks hI hc (by first | exact hB | omega) hx) (fun y19 H locs hw hI => ?_)
          have hu := hB
          refine lv_iload_n E.1 E.2.1 dX6_node_92 rfl (lv_at hl 1 rfl) ?_
          refine lv_if_eq (tgt := 101) E.1 E.2.1 dX6_node_93 (by decide) (fun c22 => ?_) (fun c22 => ?_)
          · replace hw := hw.1 (bi_z c22)
            refine hv_aload_n (r := some a0) E.1 E.2.1 dX6_node_101 rfl (lv_at hl 0 rfl) ?_
            obtain ⟨⟨fs24, hrv⟩, hw⟩ := hw
            obtain ⟨k25, hB, hw⟩ := hw
            have hq := hw
            clear hw
            refine hv_callv (u := ((u17 + k21))) (B1 := k25) hI (vx_runV (As := []) (rest := []) E (met_X6_opens l htr G (d + k + 269) hq) (cwV 0 E.2.2.2.2 (lw_V q1043 q1045 qs29 q129 q1046) rfl rfl rfl hd_X6_opens (rm_ok (by omega) (by decide))) (hv_preV hK hI hrv rfl) rfl rfl hl.1 rfl (lv_room (by first | rfl | decide | (simp [va_rf_cat, int_cat, long_cat]; done) | (simp [va_rf_cat, int_cat, long_cat]; decide))) dX6_node_102 (hv_fit (by first | exact hB | omega))) (fun ec q y1 H locs hx hI hc => hv_out hE hlocks hI hc (by first | exact hB | omega) hx) (fun y23 H locs hw hI => ?_)
            have hu := hB
            refine hv_aload_n (r := some a0) E.1 E.2.1 dX6_node_105 rfl (lv_at hl 0 rfl) ?_
            obtain ⟨f26, ⟨fs, hfs, hfk⟩, hw⟩ := hw
            refine hv_get (v := va_rf f26) E hK hI ciX6 1 (Nat.le_of_ble_eq_true rfl) q278 (fun _ h => h) (Or.inl hfs) hfk dX6_node_106 ?_
            refine hv_dup E.1 E.2.1 dX6_node_109 ?_
            obtain ⟨a27, ea27, hw⟩ := hw
            revert hl hw; subst ea27; intro hl hw
            obtain ⟨f28, ⟨fs, hfs, hfk⟩, hw⟩ := hw
            refine hv_getN (v := .int f28) E hK hI ciX2 8 (Nat.le_of_ble_eq_true rfl) q255 (fun _ h => h) (Or.inl hfs) hfk dX6_node_110 ?_
            refine lv_iconst (v := nI 1) E.1 E.2.1 dX6_node_113 rfl ?_
            refine lv_iadd E.1 E.2.1 dX6_node_114 ?_
            obtain ⟨fs30, hfs, hln, hw⟩ := hw
            refine hv_putN (v := .int (f28 + (nI 1))) E hK hI ciX2 8 (Nat.le_of_ble_eq_true rfl) q255 (fun _ h => h) rfl rfl rfl hfs hln dX6_node_115 (fun H locs hI => ?_)
            obtain ⟨y29, ey29⟩ : ∃ w, w = hput y23 a27 (ob 1 (fs30.set 8 (.int (f28 + (nI 1))))) := ⟨_, rfl⟩
            rw [← ey29] at hI
            replace hw := hw y29 ey29
            refine hv_aload_n (r := some a0) E.1 E.2.1 dX6_node_118 rfl (lv_at hl 0 rfl) ?_
            obtain ⟨⟨fs32, hrv⟩, hw⟩ := hw
            obtain ⟨k33, hB, hw⟩ := hw
            have hq := hw
            clear hw
            refine hv_callv (u := (((u17 + k21) + k25))) (B1 := k33) hI (vx_runV (As := []) (rest := []) E (met_X6_next l htr G (d + k + 268) hq) (cwV 0 E.2.2.2.2 (lw_V q314 q316 qs1 q129 q317) rfl rfl rfl hd_X6_next (rm_ok (by omega) (by decide))) (hv_preV hK hI hrv rfl) rfl rfl hl.1 rfl (lv_room (by first | rfl | decide | (simp [va_rf_cat, int_cat, long_cat]; done) | (simp [va_rf_cat, int_cat, long_cat]; decide))) dX6_node_119 (hv_fit (by first | exact hB | omega))) (fun _ _ _ _ _ h => h.elim) (fun y31 H locs hw hI => ?_)
            have hu := hB
            refine hv_aload_n (r := some a0) E.1 E.2.1 dX6_node_122 rfl (lv_at hl 0 rfl) ?_
            obtain ⟨⟨fs36, hrv⟩, hw⟩ := hw
            obtain ⟨k37, hB, hw⟩ := hw
            have hq := hw
            clear hw
            refine hv_callq (u := ((((u17 + k21) + k25) + k33))) (B1 := k37) hI (vx_runV (As := []) (rest := []) E (met_X6_cond l htr G (d + k + 1) d_c4 hq) (cwV 0 E.2.2.2.2 (lw_V q1100 q1102 qs32 q129 q1103) rfl rfl rfl hd_X6_cond (rm_ok (by omega) (by decide))) (hv_preV hK hI hrv rfl) rfl rfl hl.1 rfl (lv_room (by first | rfl | decide | (simp [va_rf_cat, int_cat, long_cat]; done) | (simp [va_rf_cat, int_cat, long_cat]; decide))) dX6_node_123 (hv_fit (by first | exact hB | omega))) (fun ec q y1 H locs hx hI hc => hv_out hE hlocks hI hc (by first | exact hB | omega) hx) (fun r35 y34 H locs hw hI => ?_)
            have hu := hB
            refine hv_astore_n (r := r35) (lv' := [(2, va_rf r35), (0, va_rf (some a0)), (1, .int (bi b8))]) E.1 E.2.1 dX6_node_126 rfl hl (Nat.le_of_ble_eq_true rfl) (by first | rfl | decide | (simp [va_rf_cat, int_cat, long_cat]; done) | (simp [va_rf_cat, int_cat, long_cat]; decide)) (fun ls hl => ?_)
            refine hv_aload_n (r := some a0) E.1 E.2.1 dX6_node_127 rfl (lv_at hl 1 rfl) ?_
            refine hv_ldcS E hK 12 16 rfl dX6_node_128 ?_
            obtain ⟨⟨fs39, hrv⟩, hw⟩ := hw
            obtain ⟨k40, hB, hw⟩ := hw
            have hq := hw
            clear hw
            refine hv_callv (u := (((((u17 + k21) + k25) + k33) + k37))) (B1 := k40) hI (vx_runV (As := [va_rf (some (gK G 16))]) (rest := []) E (met_X6_word l htr G (d + k + 267) hq) (cwV 1 E.2.2.2.2 (lw_V q1198 q1200 qs40 q129 q1201) rfl rfl rfl hd_X6_word (rm_ok (by omega) (by decide))) (hv_preV hK hI hrv rfl) rfl rfl hl.1 rfl (lv_room (by first | rfl | decide | (simp [va_rf_cat, int_cat, long_cat]; done) | (simp [va_rf_cat, int_cat, long_cat]; decide))) dX6_node_130 (hv_fit (by first | exact hB | omega))) (fun ec q y1 H locs hx hI hc => hv_out hE hlocks hI hc (by first | exact hB | omega) hx) (fun y38 H locs hw hI => ?_)
            have hu := hB
            refine hv_aload_n (r := some a0) E.1 E.2.1 dX6_node_133 rfl (lv_at hl 1 rfl) ?_
            obtain ⟨⟨fs43, hrv⟩, hw⟩ := hw
            obtain ⟨k44, hB, hw⟩ := hw
            have hq := hw
            clear hw
            refine hv_callq (u := ((((((u17 + k21) + k25) + k33) + k37) + k40))) (B1 := k44) hI (vx_runV (As := []) (rest := []) E (ih hq) (cwV 0 E.2.2.2.2 (lw_V q1039 q1041 qs28 q129 q1042) rfl rfl rfl hd_X6_node (rm_ok (by omega) (by decide))) (hv_preV hK hI hrv rfl) rfl rfl hl.1 rfl (lv_room (by first | rfl | decide | (simp [va_rf_cat, int_cat, long_cat]; done) | (simp [va_rf_cat, int_cat, long_cat]; decide))) dX6_node_134 (hv_fit (by first | exact hB | omega))) (fun ec q y1 H locs hx hI hc => hv_out hE hlocks hI hc (by first | exact hB | omega) hx) (fun r42 y41 H locs hw hI => ?_)
            have hu := hB
            refine hv_astore_n (r := r42) (lv' := [(3, va_rf r42), (2, va_rf r35), (0, va_rf (some a0)), (1, .int (bi b8))]) E.1 E.2.1 dX6_node_137 rfl hl (Nat.le_of_ble_eq_true rfl) (by first | rfl | decide | (simp [va_rf_cat, int_cat, long_cat]; done) | (simp [va_rf_cat, int_cat, long_cat]; decide)) (fun ls hl => ?_)
            refine hv_aload_n (r := some a0) E.1 E.2.1 dX6_node_138 rfl (lv_at hl 2 rfl) ?_
            refine hv_ldcS E hK 13 7 rfl dX6_node_139 ?_
            obtain ⟨⟨fs46, hrv⟩, hw⟩ := hw
            obtain ⟨k47, hB, hw⟩ := hw
            have hq := hw
            clear hw
            refine hv_callv (u := (((((((u17 + k21) + k25) + k33) + k37) + k40) + k44))) (B1 := k47) hI (vx_runV (As := [va_rf (some (gK G 7))]) (rest := []) E (met_X6_word l htr G (d + k + 267) hq) (cwV 1 E.2.2.2.2 (lw_V q1198 q1200 qs40 q129 q1201) rfl rfl rfl hd_X6_word (rm_ok (by omega) (by decide))) (hv_preV hK hI hrv rfl) rfl rfl hl.1 rfl (lv_room (by first | rfl | decide | (simp [va_rf_cat, int_cat, long_cat]; done) | (simp [va_rf_cat, int_cat, long_cat]; decide))) dX6_node_141 (hv_fit (by first | exact hB | omega))) (fun ec q y1 H locs hx hI hc => hv_out hE hlocks hI hc (by first | exact hB | omega) hx) (fun y45 H locs hw hI => ?_)
            have hu := hB
            obtain ⟨hu, hw⟩ := hw
            refine hv_new (fs := [va_rf none, va_rf none]) E hK hI ciX16 q1202 q1203 q160 (df14) (Nat.le_of_ble_eq_true rfl) hu dX6_node_144 (fun H hI => ?_)
            obtain ⟨a49, ea49⟩ : ∃ w, w = y45.2 := ⟨_, rfl⟩
            obtain ⟨y48, ey48⟩ : ∃ w, w = hnew y45 (ob 14 [va_rf none, va_rf none]) := ⟨_, rfl⟩
            rw [← ea49]
            rw [← ey48] at hI
            replace hw := hw a49 ea49 y48 ey48
            refine hv_dup E.1 E.2.1 dX6_node_147 ?_
            refine hv_aload_n (r := r35) E.1 E.2.1 dX6_node_148 rfl (lv_at hl 1 rfl) ?_
            refine lv_iconst (v := nI 2) E.1 E.2.1 dX6_node_149 rfl ?_
            obtain ⟨hu, hw⟩ := hw
            refine hv_anew6 (N := 2) E hK hI q1204 rfl (by decide) hu dX6_node_150 (fun H hI => ?_)
            obtain ⟨a51, ea51⟩ : ∃ w, w = y48.2 := ⟨_, rfl⟩
            obtain ⟨y50, ey50⟩ : ∃ w, w = hnew y48 (ar 6 2 (fun _ => none)) := ⟨_, rfl⟩
            rw [← ea51]
            rw [← ey50] at hI
            replace hw := hw a51 ea51 y50 ey50
            refine hv_dup E.1 E.2.1 dX6_node_153 ?_
            refine lv_iconst (v := nI 0) E.1 E.2.1 dX6_node_154 rfl ?_
            refine hv_aload_n (r := r42) E.1 E.2.1 dX6_node_155 rfl (lv_at hl 0 rfl) ?_
            obtain ⟨n52, g53, hra, hin, hok, hw⟩ := hw
            refine hv_aast6 E hK hI hra hin hok dX6_node_156 (fun H locs hI => ?_)
            obtain ⟨y54, ey54⟩ : ∃ w, w = hput y50 a51 (ar 6 n52 (va_up g53 (nI 0).toNatClampNeg r42)) := ⟨_, rfl⟩
            rw [← ey54] at hI
            replace hw := hw y54 ey54
            refine hv_dup E.1 E.2.1 dX6_node_157 ?_
            refine lv_iconst (v := nI 1) E.1 E.2.1 dX6_node_158 rfl ?_
            refine hv_aload_n (r := some a0) E.1 E.2.1 dX6_node_159 rfl (lv_at hl 2 rfl) ?_
            obtain ⟨⟨fs57, hrv⟩, hw⟩ := hw
            obtain ⟨k58, hB, hw⟩ := hw
            have hq := hw
            clear hw
            refine hv_callq (u := ((((((((((u17 + k21) + k25) + k33) + k37) + k40) + k44) + k47) + 1) + (1 + 2 / 20)))) (B1 := k58) hI (vx_runV (As := []) (rest := [.int (nI 1), va_rf (some a51), va_rf (some a51), va_rf r35, va_rf (some a49), va_rf (some a49)]) E (ih hq) (cwV 0 E.2.2.2.2 (lw_V q1039 q1041 qs28 q129 q1042) rfl rfl rfl hd_X6_node (rm_ok (by omega) (by decide))) (hv_preV hK hI hrv rfl) rfl rfl hl.1 rfl (lv_room (by first | rfl | decide | (simp [va_rf_cat, int_cat, long_cat]; done) | (simp [va_rf_cat, int_cat, long_cat]; decide))) dX6_node_160 (hv_fit (by first | exact hB | omega))) (fun ec q y1 H locs hx hI hc => hv_out hE hlocks hI hc (by first | exact hB | omega) hx) (fun r56 y55 H locs hw hI => ?_)
            have hu := hB
            obtain ⟨n59, g60, hra, hin, hok, hw⟩ := hw
            refine hv_aast6 E hK hI hra hin hok dX6_node_163 (fun H locs hI => ?_)
            obtain ⟨y61, ey61⟩ : ∃ w, w = hput y55 a51 (ar 6 n59 (va_up g60 (nI 1).toNatClampNeg r56)) := ⟨_, rfl⟩
            rw [← ey61] at hI
            replace hw := hw y61 ey61
            have hq := hw
            clear hw
            refine hv_callv (u := (((((((((((u17 + k21) + k25) + k33) + k37) + k40) + k44) + k47) + 1) + (1 + 2 / 20)) + k58))) (B1 := 0) hI (vx_runI (b := a49) (As := [va_rf r35, va_rf (some a51)]) (rest := [va_rf (some a49)]) E (met_X16_init l G (d + k + 274) hq) (cwI 2 E.2.2.2.2 (lw_meth q1207) rfl rfl rfl (E.2.2.2.2 _ q160) (E.2.2.2.2 _ q1205) (E.2.2.2.2 _ q1206) rfl hs_X16_init (rm_ok (by omega) (by decide))) (hv_preS hK hI) rfl rfl hl.1 rfl (lv_room (by first | rfl | decide | (simp [va_rf_cat, int_cat, long_cat]; done) | (simp [va_rf_cat, int_cat, long_cat]; decide))) dX6_node_164 (hv_fit (by first | exact hu | omega))) (fun _ _ _ _ _ h => h.elim) (fun y62 H locs hw hI => ?_)
            refine hv_astore (r := some a49) (lv' := [(4, va_rf (some a49)), (3, va_rf r42), (2, va_rf r35), (0, va_rf (some a0)), (1, .int (bi b8))]) E.1 E.2.1 dX6_node_167 hl (Nat.le_of_ble_eq_true rfl) (by first | rfl | decide | (simp [va_rf_cat, int_cat, long_cat]; done) | (simp [va_rf_cat, int_cat, long_cat]; decide)) (fun ls hl => ?_)
            refine hv_aload_n (r := some a0) E.1 E.2.1 dX6_node_169 rfl (lv_at hl 3 rfl) ?_
            refine hv_dup E.1 E.2.1 dX6_node_170 ?_
            obtain ⟨f63, ⟨fs, hfs, hfk⟩, hw⟩ := hw
            refine hv_get (v := .int f63) E hK hI ciX6 6 (Nat.le_of_ble_eq_true rfl) q283 (fun _ h => h) (Or.inl hfs) hfk dX6_node_171 ?_
            refine lv_iconst (v := nI 1) E.1 E.2.1 dX6_node_174 rfl ?_
            refine lv_isub E.1 E.2.1 dX6_node_175 ?_
            obtain ⟨fs65, hfs, hln, hw⟩ := hw
            refine hv_put (v := .int (f63 - (nI 1))) E hK hI ciX6 6 (Nat.le_of_ble_eq_true rfl) q283 (fun _ h => h) rfl rfl rfl hfs hln dX6_node_176 (fun H locs hI => ?_)
            obtain ⟨y64, ey64⟩ : ∃ w, w = hput y62 a0 (ob 4 (fs65.set 6 (.int (f63 - (nI 1))))) := ⟨_, rfl⟩
            rw [← ey64] at hI
            replace hw := hw y64 ey64
            refine hv_aload (r := some a49) E.1 E.2.1 dX6_node_179 (lv_at hl 0 rfl) ?_
            exact hv_aret (r := some a49) E hr (Or.inl ⟨_, rfl⟩) hlocks hI hu hw dX6_node_181
          · replace hw := hw.2 (bi_n c22)
            refine hv_aload_n (r := some a0) E.1 E.2.1 dX6_node_96 rfl (lv_at hl 0 rfl) ?_
            obtain ⟨⟨fs68, hrv⟩, hw⟩ := hw
            obtain ⟨k69, hB, hw⟩ := hw
            have hq := hw
            clear hw
            refine hv_callq (u := ((u17 + k21))) (B1 := k69) hI (vx_runV (As := []) (rest := []) E (met_X6_leaf l htr G (d + k + 44) hq) (cwV 0 E.2.2.2.2 (lw_V q1051 q1053 qs31 q129 q1054) rfl rfl rfl hd_X6_leaf (rm_ok (by omega) (by decide))) (hv_preV hK hI hrv rfl) rfl rfl hl.1 rfl (lv_room (by first | rfl | decide | (simp [va_rf_cat, int_cat, long_cat]; done) | (simp [va_rf_cat, int_cat, long_cat]; decide))) dX6_node_97 (hv_fit (by first | exact hB | omega))) (fun ec q y1 H locs hx hI hc => hv_out hE hlocks hI hc (by first | exact hB | omega) hx) (fun r67 y66 H locs hw hI => ?_)
            have hu := hB
            exact hv_aret (r := r67) E hr (Or.inl ⟨_, rfl⟩) hlocks hI hu hw dX6_node_100
        refine lv_iconst (v := nI 1) E.1 E.2.1 dX6_node_66 rfl ?_
        obtain ⟨a70, ea70, hw⟩ := hw
        revert hl hw; subst ea70; intro hl hw
        obtain ⟨⟨fs72, hrv⟩, hw⟩ := hw
        obtain ⟨k73, hB, hw⟩ := hw
        have hq := hw
        clear hw
        refine hv_callv (u := u11) (B1 := k73) hI (vx_runV (As := [.int (bi b9), .int (nI 1)]) (rest := []) E (met_X6_must l htr G (d + k + 270) hq) (cwV 2 E.2.2.2.2 (lw_V q594 q596 qs9 q129 q597) rfl rfl rfl hd_X6_must (rm_ok (by omega) (by decide))) (hv_preV hK hI hrv rfl) rfl rfl hl.1 rfl (lv_room (by first | rfl | decide | (simp [va_rf_cat, int_cat, long_cat]; done) | (simp [va_rf_cat, int_cat, long_cat]; decide))) dX6_node_67 (hv_fit (by first | exact hB | omega))) (fun ec q y1 H locs hx hI hc => hv_out hE hlocks hI hc (by first | exact hB | omega) hx) (fun y71 H locs hw hI => ?_)
        have hu := hB
        refine hv_aload_n (r := some a0) E.1 E.2.1 dX6_node_70 rfl (lv_at hl 0 rfl) ?_
        refine hv_aload_n (r := some a0) E.1 E.2.1 dX6_node_71 rfl (lv_at hl 0 rfl) ?_
        obtain ⟨f74, ⟨fs, hfs, hfk⟩, hw⟩ := hw
        refine hv_get (v := va_rf f74) E hK hI ciX6 1 (Nat.le_of_ble_eq_true rfl) q278 (fun _ h => h) (Or.inl hfs) hfk dX6_node_72 ?_
        obtain ⟨a75, ea75, hw⟩ := hw
        revert hl hw; subst ea75; intro hl hw
        obtain ⟨f76, ⟨fs, hfs, hfk⟩, hw⟩ := hw
        refine hv_getN (v := .int f76) E hK hI ciX2 8 (Nat.le_of_ble_eq_true rfl) q255 (fun _ h => h) (Or.inl hfs) hfk dX6_node_75 ?_
        refine lv_bipush (v := nI 40) E.1 E.2.1 dX6_node_78 rfl ?_
        refine lv_icmp_ge (tgt := 87) E.1 E.2.1 dX6_node_80 (by decide) (fun c77 => ?_) (fun c77 => ?_)
        · replace hw := hw.1 (c77)
          refine lv_iconst (v := nI 0) E.1 E.2.1 dX6_node_87 rfl ?_
          exact jh13 _ _ _ _ hw _ _ _ hI (lv_sub hl [0, 1] rfl)
        · replace hw := hw.2 (c77)
          refine lv_iconst (v := nI 1) E.1 E.2.1 dX6_node_83 rfl ?_
          refine lv_goto (tgt := 88) E.1 E.2.1 dX6_node_84 (by decide) ?_
          exact jh13 _ _ _ _ hw _ _ _ hI (lv_sub hl [0, 1] rfl)
      obtain ⟨J79, hj93, hw⟩ := hw
      have jh80 : ∀ (y81 : HS) (u84 : Nat) (b82 : Bool) (r83 : Option Nat), J79 y81 u84 b82 r83 → ∀ (H : Heap) (locs : List Loc) (ls : Array Slot), HI G y0 y81 s H locs → lv_has ls 5 [(0, va_rf (some a0)), (1, .int (bi b82))] → W p l e (rmB (d + (k + 1) + 275) B) s m args below meth c H locs u84 (20 * u84) (vx_MQ below (hQq G y0 post) (hX G y0 xp) args s B (20 * B) (HA y0)) (F0 m 61 ls [va_rf r83]) := by
        intro y81 u84 b82 r83 hw H locs ls hI hl
        replace hw := hj93 y81 u84 b82 r83 hw
        obtain ⟨hu, hw⟩ := hw
        refine lv_iconst (v := nI 1) E.1 E.2.1 dX6_node_61 rfl ?_
        refine lv_goto (tgt := 66) E.1 E.2.1 dX6_node_62 (by decide) ?_
        exact jh6 _ _ _ _ _ hw _ _ _ hI (lv_sub hl [0, 1] rfl)
      refine hv_aload_n (r := some a0) E.1 E.2.1 dX6_node_40 rfl (lv_at hl 0 rfl) ?_
      refine hv_ldcS E hK 10 4 rfl dX6_node_41 ?_
      obtain ⟨⟨fs87, hrv⟩, hw⟩ := hw
      have hq := hw
      clear hw
      refine hv_callz (u := 0) (B1 := 0) hI (vx_runV (As := [va_rf (some (gK G 4))]) (rest := []) E (met_X6_isWord l htr G (d + k + 273) hq) (cwV 1 E.2.2.2.2 (lw_V q892 q894 qs19 q129 q895) rfl rfl rfl hd_X6_isWord (rm_ok (by omega) (by decide))) (hv_preV hK hI hrv rfl) rfl rfl hl.1 rfl (lv_room (by first | rfl | decide | (simp [va_rf_cat, int_cat, long_cat]; done) | (simp [va_rf_cat, int_cat, long_cat]; decide))) dX6_node_43 (hv_fit (by first | exact hu | omega))) (fun _ _ _ _ _ h => h.elim) (fun b86 y85 H locs hw hI => ?_)
      refine lv_istore_n (lv' := [(1, .int (bi b86)), (0, va_rf (some a0))]) E.1 E.2.1 dX6_node_46 rfl hl (Nat.le_of_ble_eq_true rfl) (by first | rfl | decide | (simp [va_rf_cat, int_cat, long_cat]; done) | (simp [va_rf_cat, int_cat, long_cat]; decide)) (fun ls hl => ?_)
      refine hv_aload_n (r := some a0) E.1 E.2.1 dX6_node_47 rfl (lv_at hl 1 rfl) ?_
      refine lv_iload_n E.1 E.2.1 dX6_node_48 rfl (lv_at hl 0 rfl) ?_
      refine lv_if_ne (tgt := 61) E.1 E.2.1 dX6_node_49 (by decide) (fun c88 => ?_) (fun c88 => ?_)
      · replace hw := hw.1 (bi_n c88)
        exact jh80 _ _ _ _ hw _ _ _ hI (lv_sub hl [1, 0] rfl)
      · replace hw := hw.2 (bi_z c88)
        refine hv_aload_n (r := some a0) E.1 E.2.1 dX6_node_52 rfl (lv_at hl 1 rfl) ?_
        refine hv_ldcS E hK 11 9 rfl dX6_node_53 ?_
        obtain ⟨⟨fs91, hrv⟩, hw⟩ := hw
        have hq := hw
        clear hw
        refine hv_callz (u := 0) (B1 := 0) hI (vx_runV (As := [va_rf (some (gK G 9))]) (rest := [va_rf (some a0)]) E (met_X6_isWord l htr G (d + k + 273) hq) (cwV 1 E.2.2.2.2 (lw_V q892 q894 qs19 q129 q895) rfl rfl rfl hd_X6_isWord (rm_ok (by omega) (by decide))) (hv_preV hK hI hrv rfl) rfl rfl hl.1 rfl (lv_room (by first | rfl | decide | (simp [va_rf_cat, int_cat, long_cat]; done) | (simp [va_rf_cat, int_cat, long_cat]; decide))) dX6_node_55 (hv_fit (by first | exact hu | omega))) (fun _ _ _ _ _ h => h.elim) (fun b90 y89 H locs hw hI => ?_)
        refine lv_if_eq (tgt := 65) E.1 E.2.1 dX6_node_58 (by decide) (fun c92 => ?_) (fun c92 => ?_)
        · replace hw := hw.1 (bi_z c92)
          refine lv_iconst (v := nI 0) E.1 E.2.1 dX6_node_65 rfl ?_
          exact jh6 _ _ _ _ _ hw _ _ _ hI (lv_sub hl [1, 0] rfl)
        · replace hw := hw.2 (bi_n c92)
          exact jh80 _ _ _ _ hw _ _ _ hI (lv_sub hl [1, 0] rfl)
    · replace hw := hw.2 (bi_n c4)
      refine hv_aload_n (r := some a0) E.1 E.2.1 dX6_node_9 rfl (lv_at hl 0 rfl) ?_
      obtain ⟨⟨fs96, hrv⟩, hw⟩ := hw
      obtain ⟨k97, hB, hw⟩ := hw
      have hq := hw
      clear hw
      refine hv_callv (u := 0) (B1 := k97) hI (vx_runV (As := []) (rest := []) E (met_X6_opens l htr G (d + k + 269) hq) (cwV 0 E.2.2.2.2 (lw_V q1043 q1045 qs29 q129 q1046) rfl rfl rfl hd_X6_opens (rm_ok (by omega) (by decide))) (hv_preV hK hI hrv rfl) rfl rfl hl.1 rfl (lv_room (by first | rfl | decide | (simp [va_rf_cat, int_cat, long_cat]; done) | (simp [va_rf_cat, int_cat, long_cat]; decide))) dX6_node_10 (hv_fit (by first | exact hB | omega))) (fun ec q y1 H locs hx hI hc => hv_out hE hlocks hI hc (by first | exact hB | omega) hx) (fun y95 H locs hw hI => ?_)
      have hu := hB
      refine hv_aload_n (r := some a0) E.1 E.2.1 dX6_node_13 rfl (lv_at hl 0 rfl) ?_
      obtain ⟨⟨fs99, hrv⟩, hw⟩ := hw
      obtain ⟨k100, hB, hw⟩ := hw
      have hq := hw
      clear hw
      refine hv_callv (u := ((0 + k97))) (B1 := k100) hI (vx_runV (As := []) (rest := []) E (met_X6_next l htr G (d + k + 268) hq) (cwV 0 E.2.2.2.2 (lw_V q314 q316 qs1 q129 q317) rfl rfl rfl hd_X6_next (rm_ok (by omega) (by decide))) (hv_preV hK hI hrv rfl) rfl rfl hl.1 rfl (lv_room (by first | rfl | decide | (simp [va_rf_cat, int_cat, long_cat]; done) | (simp [va_rf_cat, int_cat, long_cat]; decide))) dX6_node_14 (hv_fit (by first | exact hB | omega))) (fun _ _ _ _ _ h => h.elim) (fun y98 H locs hw hI => ?_)
      have hu := hB
      refine hv_aload_n (r := some a0) E.1 E.2.1 dX6_node_17 rfl (lv_at hl 0 rfl) ?_
      obtain ⟨⟨fs103, hrv⟩, hw⟩ := hw
      obtain ⟨k104, hB, hw⟩ := hw
      have hq := hw
      clear hw
      refine hv_callq (u := (((0 + k97) + k100))) (B1 := k104) hI (vx_runV (As := []) (rest := []) E (ih hq) (cwV 0 E.2.2.2.2 (lw_V q1039 q1041 qs28 q129 q1042) rfl rfl rfl hd_X6_node (rm_ok (by omega) (by decide))) (hv_preV hK hI hrv rfl) rfl rfl hl.1 rfl (lv_room (by first | rfl | decide | (simp [va_rf_cat, int_cat, long_cat]; done) | (simp [va_rf_cat, int_cat, long_cat]; decide))) dX6_node_18 (hv_fit (by first | exact hB | omega))) (fun ec q y1 H locs hx hI hc => hv_out hE hlocks hI hc (by first | exact hB | omega) hx) (fun r102 y101 H locs hw hI => ?_)
      have hu := hB
      refine hv_astore_n (r := r102) (lv' := [(1, va_rf r102), (0, va_rf (some a0))]) E.1 E.2.1 dX6_node_21 rfl hl (Nat.le_of_ble_eq_true rfl) (by first | rfl | decide | (simp [va_rf_cat, int_cat, long_cat]; done) | (simp [va_rf_cat, int_cat, long_cat]; decide)) (fun ls hl => ?_)
      refine hv_aload_n (r := some a0) E.1 E.2.1 dX6_node_22 rfl (lv_at hl 1 rfl) ?_
      refine lv_bipush (v := nI 41) E.1 E.2.1 dX6_node_23 rfl ?_
      obtain ⟨⟨fs106, hrv⟩, hw⟩ := hw
      obtain ⟨k107, hB, hw⟩ := hw
      have hq := hw
      clear hw
      refine hv_callv (u := ((((0 + k97) + k100) + k104))) (B1 := k107) hI (vx_runV (As := [.int (nI 41)]) (rest := []) E (met_X6_sign l htr G (d + k + 267) hq) (cwV 1 E.2.2.2.2 (lw_V q1047 q1049 qs30 q129 q1050) rfl rfl rfl hd_X6_sign (rm_ok (by omega) (by decide))) (hv_preV hK hI hrv rfl) rfl rfl hl.1 rfl (lv_room (by first | rfl | decide | (simp [va_rf_cat, int_cat, long_cat]; done) | (simp [va_rf_cat, int_cat, long_cat]; decide))) dX6_node_25 (hv_fit (by first | exact hB | omega))) (fun ec q y1 H locs hx hI hc => hv_out hE hlocks hI hc (by first | exact hB | omega) hx) (fun y105 H locs hw hI => ?_)
      have hu := hB
      refine hv_aload_n (r := some a0) E.1 E.2.1 dX6_node_28 rfl (lv_at hl 1 rfl) ?_
      refine hv_dup E.1 E.2.1 dX6_node_29 ?_
      obtain ⟨f108, ⟨fs, hfs, hfk⟩, hw⟩ := hw
      refine hv_get (v := .int f108) E hK hI ciX6 6 (Nat.le_of_ble_eq_true rfl) q283 (fun _ h => h) (Or.inl hfs) hfk dX6_node_30 ?_
      refine lv_iconst (v := nI 1) E.1 E.2.1 dX6_node_33 rfl ?_
      refine lv_isub E.1 E.2.1 dX6_node_34 ?_
      obtain ⟨fs110, hfs, hln, hw⟩ := hw
      refine hv_put (v := .int (f108 - (nI 1))) E hK hI ciX6 6 (Nat.le_of_ble_eq_true rfl) q283 (fun _ h => h) rfl rfl rfl hfs hln dX6_node_35 (fun H locs hI => ?_)
      obtain ⟨y109, ey109⟩ : ∃ w, w = hput y105 a0 (ob 4 (fs110.set 6 (.int (f108 - (nI 1))))) := ⟨_, rfl⟩
      rw [← ey109] at hI
      replace hw := hw y109 ey109
      refine hv_aload_n (r := r102) E.1 E.2.1 dX6_node_38 rfl (lv_at hl 0 rfl) ?_
      exact hv_aret (r := r102) E hr (Or.inl ⟨_, rfl⟩) hlocks hI hu hw dX6_node_39
/-- CaseGrouper$Reader.tree()V -/
def wp_X6_tree (G : GP) (B : Nat) (post : HS → Prop) (xp : Nat → Nat → HS → Prop) (y0 : HS) (a0 : Nat) : Prop := ∃ J1 : HS → Nat → Bool → (Option Nat) → Prop, (∀ (y3 : HS) (u6 : Nat) (b4 : Bool) (r5 : Option Nat), J1 y3 u6 b4 r5 → u6 ≤ B ∧ ∃ a7, r5 = some a7 ∧ (∃ fs9, rd G y3 a7 (ob 4 fs9)) ∧ ∃ k10, u6 + k10 ≤ B ∧ wp_X6_must G k10 (fun y8 => (∃ fs12, rd G y8 a0 (ob 4 fs12)) ∧ ∃ k13, (u6 + k10) + k13 ≤ B ∧ wp_X6_next G k13 (fun y11 => ∃ fs15, y11.1 a0 = some (ob 4 fs15) ∧ 6 < fs15.length ∧ ∀ y14, y14 = hput y11 a0 (ob 4 (fs15.set 6 (.int (nI 0)))) → ∃ f16, fR y14 a0 4 8 f16 ∧ (∃ fs19, rd G y14 a0 (ob 4 fs19)) ∧ ∃ k20, ((u6 + k10) + k13) + k20 ≤ B ∧ wp_xnode G d_xnode k20 (fun r18 y17 => ∃ a21, f16 = some a21 ∧ ∃ fs23, y17.1 a21 = some (ob 7 fs23) ∧ 2 < fs23.length ∧ ∀ y22, y22 = hput y17 a21 (ob 7 (fs23.set 2 (va_rf r18))) → post y22) xp y14 a0) y8 a0) xp y3 a7 b4 (nI 3)) ∧ (∃ J24 : HS → Nat → (Option Nat) → Prop, (∀ (y26 : HS) (u28 : Nat) (r27 : Option Nat), J24 y26 u28 r27 → u28 ≤ B ∧ J1 y26 u28 false r27) ∧ ((∃ fs30, rd G y0 a0 (ob 4 fs30)) ∧ ∃ k31, 0 + k31 ≤ B ∧ wp_X6_next G k31 (fun y29 => ∃ f32, fR y29 a0 4 1 f32 ∧ (∃ fs35, rd G y29 a0 (ob 4 fs35)) ∧ ∃ k36, (0 + k31) + k36 ≤ B ∧ wp_X6_name G k36 (fun r34 y33 => ∃ a37, f32 = some a37 ∧ (∃ fs40, rd G y33 a37 (ob 1 fs40)) ∧ wp_X2_find G (fun r39 y38 => ∃ fs42, y38.1 a0 = some (ob 4 fs42) ∧ 8 < fs42.length ∧ ∀ y41, y41 = hput y38 a0 (ob 4 (fs42.set 8 (va_rf r39))) → ∃ f43, fR y41 a0 4 8 f43 ∧ (f43 = none → J24 y41 (((0 + k31) + k36)) (some a0)) ∧ (∀ a45, f43 = some a45 → ∃ f46, fR y41 a0 4 8 f46 ∧ ∃ a47, f46 = some a47 ∧ ∃ f48, fR y41 a47 7 2 f48 ∧ (f48 = none → J1 y41 (((0 + k31) + k36)) true (some a0)) ∧ (∀ a50, f48 = some a50 → J24 y41 (((0 + k31) + k36)) (some a0)))) y33 a37 r34) xp y29 a0) y0 a0))
theorem hs_X6_tree : yX6_tree.cls ≠ "java/lang/invoke/MethodHandle" ∧ yX6_tree.cls ≠ "java/lang/invoke/VarHandle" ∧ (parseMethodDescriptor yX6_tree.desc).map (fun d => d.parameters.length) = some 0 := by decide +kernel
theorem hd_X6_tree : yX6_tree.cls = RX6 ∧ yX6_tree.cls ≠ "java/lang/invoke/MethodHandle" ∧ yX6_tree.cls ≠ "java/lang/invoke/VarHandle" ∧ (parseMethodDescriptor yX6_tree.desc).map (fun d => d.parameters.length) = some 0 := by decide +kernel
set_option maxHeartbeats 4000000 in
theorem met_X6_tree (l : Launch) (htr : l.stackTraces = false) (G : GP) (d : Nat) {B : Nat} {post : HS → Prop} {xp : Nat → Nat → HS → Prop} {y0 : HS} {a0 : Nat} (hw : wp_X6_tree G B post xp y0 a0) : vx_Met l yX6_tree (ws_ yX6_tree cX6_tree 1 none) (rmB (d + 287) B) (hPc G y0 [va_rf (some a0)]) (hQv G y0 post) (hX G y0 xp) B (20 * B) (HA y0) := by
  have hD_xnode : d_xnode = 11 := rfl
  unfold wp_X6_tree at hw
  refine hv_met (own := RX6) (by decide) rfl (Nat.le_of_ble_eq_true rfl) ?_
  intro p e s m args below meth c ls E hr hlocks hnm hE hK hI hl
  replace hl : lv_has ls 1 [(0, va_rf (some a0))] := hl
  have hu : 0 ≤ B := Nat.zero_le _
  obtain ⟨J1, hj52, hw⟩ := hw
  have jh2 : ∀ (y3 : HS) (u6 : Nat) (b4 : Bool) (r5 : Option Nat), J1 y3 u6 b4 r5 → ∀ (H : Heap) (locs : List Loc) (ls : Array Slot), HI G y0 y3 s H locs → lv_has ls 1 [(0, va_rf (some a0))] → W p l e (rmB (d + 287) B) s m args below meth c H locs u6 (20 * u6) (vx_MQ below (hQv G y0 post) (hX G y0 xp) args s B (20 * B) (HA y0)) (F0 m 42 ls [.int (bi b4), va_rf r5]) := by
    intro y3 u6 b4 r5 hw H locs ls hI hl
    replace hw := hj52 y3 u6 b4 r5 hw
    obtain ⟨hu, hw⟩ := hw
    refine lv_iconst (v := nI 3) E.1 E.2.1 dX6_tree_42 rfl ?_
    obtain ⟨a7, ea7, hw⟩ := hw
    revert hl hw; subst ea7; intro hl hw
    obtain ⟨⟨fs9, hrv⟩, hw⟩ := hw
    obtain ⟨k10, hB, hw⟩ := hw
    have hq := hw
    clear hw
    refine hv_callv (u := u6) (B1 := k10) hI (vx_runV (As := [.int (bi b4), .int (nI 3)]) (rest := []) E (met_X6_must l htr G (d + 281) hq) (cwV 2 E.2.2.2.2 (lw_V q594 q596 qs9 q129 q597) rfl rfl rfl hd_X6_must (rm_ok (by omega) (by decide))) (hv_preV hK hI hrv rfl) rfl rfl hl.1 rfl (lv_room (by first | rfl | decide | (simp [va_rf_cat, int_cat, long_cat]; done) | (simp [va_rf_cat, int_cat, long_cat]; decide))) dX6_tree_43 (hv_fit (by first | exact hB | omega))) (fun ec q y1 H locs hx hI hc => hv_out hE hlocks hI hc (by first | exact hB | omega) hx) (fun y8 H locs hw hI => ?_)
    have hu := hB
    refine hv_aload_n (r := some a0) E.1 E.2.1 dX6_tree_46 rfl (lv_at hl 0 rfl) ?_
    obtain ⟨⟨fs12, hrv⟩, hw⟩ := hw
    obtain ⟨k13, hB, hw⟩ := hw
    have hq := hw
    clear hw
    refine hv_callv (u := ((u6 + k10))) (B1 := k13) hI (vx_runV (As := []) (rest := []) E (met_X6_next l htr G (d + 279) hq) (cwV 0 E.2.2.2.2 (lw_V q314 q316 qs1 q129 q317) rfl rfl rfl hd_X6_next (rm_ok (by omega) (by decide))) (hv_preV hK hI hrv rfl) rfl rfl hl.1 rfl (lv_room (by first | rfl | decide | (simp [va_rf_cat, int_cat, long_cat]; done) | (simp [va_rf_cat, int_cat, long_cat]; decide))) dX6_tree_47 (hv_fit (by first | exact hB | omega))) (fun _ _ _ _ _ h => h.elim) (fun y11 H locs hw hI => ?_)
    have hu := hB
    refine hv_aload_n (r := some a0) E.1 E.2.1 dX6_tree_50 rfl (lv_at hl 0 rfl) ?_
    refine lv_iconst (v := nI 0) E.1 E.2.1 dX6_tree_51 rfl ?_
    obtain ⟨fs15, hfs, hln, hw⟩ := hw
    refine hv_put (v := .int (nI 0)) E hK hI ciX6 6 (Nat.le_of_ble_eq_true rfl) q283 (fun _ h => h) rfl rfl rfl hfs hln dX6_tree_52 (fun H locs hI => ?_)
    obtain ⟨y14, ey14⟩ : ∃ w, w = hput y11 a0 (ob 4 (fs15.set 6 (.int (nI 0)))) := ⟨_, rfl⟩
    rw [← ey14] at hI
    replace hw := hw y14 ey14
    refine hv_aload_n (r := some a0) E.1 E.2.1 dX6_tree_55 rfl (lv_at hl 0 rfl) ?_
    obtain ⟨f16, ⟨fs, hfs, hfk⟩, hw⟩ := hw
    refine hv_get (v := va_rf f16) E hK hI ciX6 8 (Nat.le_of_ble_eq_true rfl) q286 (fun _ h => h) (Or.inl hfs) hfk dX6_tree_56 ?_
    refine hv_aload_n (r := some a0) E.1 E.2.1 dX6_tree_59 rfl (lv_at hl 0 rfl) ?_
    obtain ⟨⟨fs19, hrv⟩, hw⟩ := hw
    obtain ⟨k20, hB, hw⟩ := hw
    have hq := hw
    clear hw
    refine hv_callq (u := (((u6 + k10) + k13))) (B1 := k20) hI (vx_runV (As := []) (rest := [va_rf f16]) E (met_X6_node l htr G (d) d_xnode hq) (cwV 0 E.2.2.2.2 (lw_V q1039 q1041 qs28 q129 q1042) rfl rfl rfl hd_X6_node (rm_ok (by omega) (by decide))) (hv_preV hK hI hrv rfl) rfl rfl hl.1 rfl (lv_room (by first | rfl | decide | (simp [va_rf_cat, int_cat, long_cat]; done) | (simp [va_rf_cat, int_cat, long_cat]; decide))) dX6_tree_60 (hv_fit (by first | exact hB | omega))) (fun ec q y1 H locs hx hI hc => hv_out hE hlocks hI hc (by first | exact hB | omega) hx) (fun r18 y17 H locs hw hI => ?_)
    have hu := hB
    obtain ⟨a21, ea21, hw⟩ := hw
    revert hl hw; subst ea21; intro hl hw
    obtain ⟨fs23, hfs, hln, hw⟩ := hw
    refine hv_putN (v := va_rf r18) E hK hI ciX9 2 (Nat.le_of_ble_eq_true rfl) q813 (fun _ h => h) rfl (rf_nar _ _ rfl) (rf_fit _ _ rfl) hfs hln dX6_tree_63 (fun H locs hI => ?_)
    obtain ⟨y22, ey22⟩ : ∃ w, w = hput y17 a21 (ob 7 (fs23.set 2 (va_rf r18))) := ⟨_, rfl⟩
    rw [← ey22] at hI
    replace hw := hw y22 ey22
    exact hv_vret E hr hlocks hI hu hw dX6_tree_66
  obtain ⟨J24, hj51, hw⟩ := hw
  have jh25 : ∀ (y26 : HS) (u28 : Nat) (r27 : Option Nat), J24 y26 u28 r27 → ∀ (H : Heap) (locs : List Loc) (ls : Array Slot), HI G y0 y26 s H locs → lv_has ls 1 [(0, va_rf (some a0))] → W p l e (rmB (d + 287) B) s m args below meth c H locs u28 (20 * u28) (vx_MQ below (hQv G y0 post) (hX G y0 xp) args s B (20 * B) (HA y0)) (F0 m 41 ls [va_rf r27]) := by
    intro y26 u28 r27 hw H locs ls hI hl
    replace hw := hj51 y26 u28 r27 hw
    obtain ⟨hu, hw⟩ := hw
    refine lv_iconst (v := nI 0) E.1 E.2.1 dX6_tree_41 rfl ?_
    exact jh2 _ _ _ _ hw _ _ _ hI (lv_sub hl [0] rfl)
  refine hv_aload_n (r := some a0) E.1 E.2.1 dX6_tree_0 rfl (lv_at hl 0 rfl) ?_
  obtain ⟨⟨fs30, hrv⟩, hw⟩ := hw
  obtain ⟨k31, hB, hw⟩ := hw
  have hq := hw
  clear hw
  refine hv_callv (u := 0) (B1 := k31) hI (vx_runV (As := []) (rest := []) E (met_X6_next l htr G (d + 279) hq) (cwV 0 E.2.2.2.2 (lw_V q314 q316 qs1 q129 q317) rfl rfl rfl hd_X6_next (rm_ok (by omega) (by decide))) (hv_preV hK hI hrv rfl) rfl rfl hl.1 rfl (lv_room (by first | rfl | decide | (simp [va_rf_cat, int_cat, long_cat]; done) | (simp [va_rf_cat, int_cat, long_cat]; decide))) dX6_tree_1 (hv_fit (by first | exact hB | omega))) (fun _ _ _ _ _ h => h.elim) (fun y29 H locs hw hI => ?_)
  have hu := hB
  refine hv_aload_n (r := some a0) E.1 E.2.1 dX6_tree_4 rfl (lv_at hl 0 rfl) ?_
  refine hv_aload_n (r := some a0) E.1 E.2.1 dX6_tree_5 rfl (lv_at hl 0 rfl) ?_
  obtain ⟨f32, ⟨fs, hfs, hfk⟩, hw⟩ := hw
  refine hv_get (v := va_rf f32) E hK hI ciX6 1 (Nat.le_of_ble_eq_true rfl) q278 (fun _ h => h) (Or.inl hfs) hfk dX6_tree_6 ?_
  refine hv_aload_n (r := some a0) E.1 E.2.1 dX6_tree_9 rfl (lv_at hl 0 rfl) ?_
  obtain ⟨⟨fs35, hrv⟩, hw⟩ := hw
  obtain ⟨k36, hB, hw⟩ := hw
  have hq := hw
  clear hw
  refine hv_callq (u := ((0 + k31))) (B1 := k36) hI (vx_runV (As := []) (rest := [va_rf f32, va_rf (some a0)]) E (met_X6_name l htr G (d + 280) hq) (cwV 0 E.2.2.2.2 (lw_V q755 q757 qs14 q129 q758) rfl rfl rfl hd_X6_name (rm_ok (by omega) (by decide))) (hv_preV hK hI hrv rfl) rfl rfl hl.1 rfl (lv_room (by first | rfl | decide | (simp [va_rf_cat, int_cat, long_cat]; done) | (simp [va_rf_cat, int_cat, long_cat]; decide))) dX6_tree_10 (hv_fit (by first | exact hB | omega))) (fun ec q y1 H locs hx hI hc => hv_out hE hlocks hI hc (by first | exact hB | omega) hx) (fun r34 y33 H locs hw hI => ?_)
  have hu := hB
  obtain ⟨a37, ea37, hw⟩ := hw
  revert hl hw; subst ea37; intro hl hw
  obtain ⟨⟨fs40, hrv⟩, hw⟩ := hw
  have hq := hw
  clear hw
  refine hv_callq (u := (((0 + k31) + k36))) (B1 := 0) hI (vx_runV (As := [va_rf r34]) (rest := [va_rf (some a0)]) E (met_X2_find l G (d + 283) hq) (cwV 1 E.2.2.2.2 (lw_V q779 q780 q781 q125 q782) rfl rfl rfl hd_X2_find (rm_ok (by omega) (by decide))) (hv_preV hK hI hrv rfl) rfl rfl hl.1 rfl (lv_room (by first | rfl | decide | (simp [va_rf_cat, int_cat, long_cat]; done) | (simp [va_rf_cat, int_cat, long_cat]; decide))) dX6_tree_13 (hv_fit (by first | exact hu | omega))) (fun _ _ _ _ _ h => h.elim) (fun r39 y38 H locs hw hI => ?_)
  obtain ⟨fs42, hfs, hln, hw⟩ := hw
  refine hv_put (v := va_rf r39) E hK hI ciX6 8 (Nat.le_of_ble_eq_true rfl) q286 (fun _ h => h) rfl (rf_nar _ _ rfl) (rf_fit _ _ rfl) hfs hln dX6_tree_16 (fun H locs hI => ?_)
  obtain ⟨y41, ey41⟩ : ∃ w, w = hput y38 a0 (ob 4 (fs42.set 8 (va_rf r39))) := ⟨_, rfl⟩
  rw [← ey41] at hI
  replace hw := hw y41 ey41
  refine hv_aload_n (r := some a0) E.1 E.2.1 dX6_tree_19 rfl (lv_at hl 0 rfl) ?_
  refine hv_aload_n (r := some a0) E.1 E.2.1 dX6_tree_20 rfl (lv_at hl 0 rfl) ?_
  obtain ⟨f43, ⟨fs, hfs, hfk⟩, hw⟩ := hw
  refine hv_get (v := va_rf f43) E hK hI ciX6 8 (Nat.le_of_ble_eq_true rfl) q286 (fun _ h => h) (Or.inl hfs) hfk dX6_tree_21 ?_
  refine hv_ifnull (r := f43) (tgt := 41) E.1 E.2.1 dX6_tree_24 (by decide) (fun c44 => ?_) (fun a45 c44 => ?_)
  · replace hw := hw.1 c44
    exact jh25 _ _ _ hw _ _ _ hI (lv_sub hl [0] rfl)
  · replace hw := hw.2 a45 c44
    revert hl hw; subst c44; intro hl hw
    refine hv_aload_n (r := some a0) E.1 E.2.1 dX6_tree_27 rfl (lv_at hl 0 rfl) ?_
    obtain ⟨f46, ⟨fs, hfs, hfk⟩, hw⟩ := hw
    refine hv_get (v := va_rf f46) E hK hI ciX6 8 (Nat.le_of_ble_eq_true rfl) q286 (fun _ h => h) (Or.inl hfs) hfk dX6_tree_28 ?_
    obtain ⟨a47, ea47, hw⟩ := hw
    revert hl hw; subst ea47; intro hl hw
    obtain ⟨f48, ⟨fs, hfs, hfk⟩, hw⟩ := hw
    refine hv_getN (v := va_rf f48) E hK hI ciX9 2 (Nat.le_of_ble_eq_true rfl) q813 (fun _ h => h) (Or.inl hfs) hfk dX6_tree_31 ?_
    refine hv_ifnonnull (r := f48) (tgt := 41) E.1 E.2.1 dX6_tree_34 (by decide) (fun a50 c49 => ?_) (fun c49 => ?_)
    · replace hw := hw.2 a50 c49
      revert hl hw; subst c49; intro hl hw
      exact jh25 _ _ _ hw _ _ _ hI (lv_sub hl [0] rfl)
    · replace hw := hw.1 c49
      refine lv_iconst (v := nI 1) E.1 E.2.1 dX6_tree_37 rfl ?_
      refine lv_goto (tgt := 42) E.1 E.2.1 dX6_tree_38 (by decide) ?_
      exact jh2 _ _ _ _ hw _ _ _ hI (lv_sub hl [0] rfl)
/-- CaseGrouper$Reader.line()V -/
def wp_X6_line (G : GP) (B : Nat) (post : HS → Prop) (xp : Nat → Nat → HS → Prop) (y0 : HS) (a0 : Nat) : Prop := ∃ J1 : HS → Nat → Int32 → Prop, (∀ (y3 : HS) (u5 : Nat) (x4 : Int32), J1 y3 u5 x4 → u5 ≤ B ∧ ∃ J6 : HS → Nat → Prop, (∀ (y8 : HS) (u9 : Nat), J6 y8 u9 → u9 ≤ B ∧ (∃ fs11, rd G y8 a0 (ob 4 fs11)) ∧ ∃ k12, u9 + k12 ≤ B ∧ wp_X6_sign G k12 (fun y10 => post y10) xp y8 a0 (nI 59)) ∧ ((x4 = nI 0 → (∃ fs15, rd G y3 a0 (ob 4 fs15)) ∧ ∃ k16, u5 + k16 ≤ B ∧ wp_X6_chapter G k16 (fun y14 => J6 y14 ((u5 + k16)) ) xp y3 a0) ∧ (¬ x4 = nI 0 → (x4 = nI 1 → (∃ fs19, rd G y3 a0 (ob 4 fs19)) ∧ ∃ k20, u5 + k20 ≤ B ∧ wp_X6_rank G k20 (fun y18 => J6 y18 ((u5 + k20)) ) xp y3 a0) ∧ (¬ x4 = nI 1 → (x4 = nI 2 → (∃ fs23, rd G y3 a0 (ob 4 fs23)) ∧ ∃ k24, u5 + k24 ≤ B ∧ wp_X6_partner G k24 (fun y22 => J6 y22 ((u5 + k24)) ) xp y3 a0) ∧ (¬ x4 = nI 2 → (x4 = nI 3 → (∃ fs27, rd G y3 a0 (ob 4 fs27)) ∧ ∃ k28, u5 + k28 ≤ B ∧ wp_X6_tree G k28 (fun y26 => J6 y26 ((u5 + k28)) ) xp y3 a0) ∧ (¬ x4 = nI 3 → (∃ fs31, rd G y3 a0 (ob 4 fs31)) ∧ ∃ k32, u5 + k32 ≤ B ∧ wp_X6_wrong G k32 (fun r30 y29 => ∃ a33, r30 = some a33 ∧ ∃ fs34, y29.1 a33 = some (ob 6 fs34) ∧ xp 6 a33 y29) y3 a0 (nI 1))))))) ∧ (∃ f36, fR y0 a0 4 4 f36 ∧ ∃ b37, isIn G y0 f36 20 b37 ∧ (∃ fs39, rd G y0 a0 (ob 4 fs39)) ∧ ∃ k40, 0 + k40 ≤ B ∧ wp_X6_must G k40 (fun y38 => ∃ f41, fR y38 a0 4 4 f41 ∧ isOf G y38 f41 20 ∧ ∃ a42, f41 = some a42 ∧ (∃ fs45, rd G y38 a42 (ob 20 fs45)) ∧ wp_J5_hashCode G (fun x44 y43 => (x44 = (-792929080) → (∃ fs49, rd G y43 a42 (ob 20 fs49)) ∧ wp_J5_equals G (fun b48 y47 => (b48 = false → J1 y47 ((0 + k40)) ((-1))) ∧ (b48 = true → J1 y47 ((0 + k40)) (nI 2))) y43 a42 (some (gK G 14))) ∧ (¬ x44 = (-792929080) → (x44 = nI 3492908 → (∃ fs54, rd G y43 a42 (ob 20 fs54)) ∧ wp_J5_equals G (fun b53 y52 => (b53 = false → J1 y52 ((0 + k40)) ((-1))) ∧ (b53 = true → J1 y52 ((0 + k40)) (nI 1))) y43 a42 (some (gK G 15))) ∧ (¬ x44 = nI 3492908 → (x44 = nI 3568542 → (∃ fs59, rd G y43 a42 (ob 20 fs59)) ∧ wp_J5_equals G (fun b58 y57 => (b58 = false → J1 y57 ((0 + k40)) ((-1))) ∧ (b58 = true → J1 y57 ((0 + k40)) (nI 3))) y43 a42 (some (gK G 19))) ∧ (¬ x44 = nI 3568542 → (x44 = nI 739015757 → (∃ fs64, rd G y43 a42 (ob 20 fs64)) ∧ wp_J5_equals G (fun b63 y62 => (b63 = false → J1 y62 ((0 + k40)) ((-1))) ∧ (b63 = true → J1 y62 ((0 + k40)) (nI 0))) y43 a42 (some (gK G 3))) ∧ (¬ x44 = nI 739015757 → J1 y43 ((0 + k40)) ((-1))))))) y38 a42) xp y0 a0 b37 (nI 1))
theorem hs_X6_line : yX6_line.cls ≠ "java/lang/invoke/MethodHandle" ∧ yX6_line.cls ≠ "java/lang/invoke/VarHandle" ∧ (parseMethodDescriptor yX6_line.desc).map (fun d => d.parameters.length) = some 0 := by decide +kernel
theorem hd_X6_line : yX6_line.cls = RX6 ∧ yX6_line.cls ≠ "java/lang/invoke/MethodHandle" ∧ yX6_line.cls ≠ "java/lang/invoke/VarHandle" ∧ (parseMethodDescriptor yX6_line.desc).map (fun d => d.parameters.length) = some 0 := by decide +kernel
set_option maxHeartbeats 4000000 in
theorem met_X6_line (l : Launch) (htr : l.stackTraces = false) (G : GP) (d : Nat) {B : Nat} {post : HS → Prop} {xp : Nat → Nat → HS → Prop} {y0 : HS} {a0 : Nat} (hw : wp_X6_line G B post xp y0 a0) : vx_Met l yX6_line (ws_ yX6_line cX6_line 3 none) (rmB (d + 288) B) (hPc G y0 [va_rf (some a0)]) (hQv G y0 post) (hX G y0 xp) B (20 * B) (HA y0) := by
  unfold wp_X6_line at hw
  refine hv_met (own := RX6) (by decide) rfl (Nat.le_of_ble_eq_true rfl) ?_
  intro p e s m args below meth c ls E hr hlocks hnm hE hK hI hl
  replace hl : lv_has ls 3 [(0, va_rf (some a0))] := hl
  have hu : 0 ≤ B := Nat.zero_le _
  obtain ⟨J1, hj66, hw⟩ := hw
  have jh2 : ∀ (y3 : HS) (u5 : Nat) (x4 : Int32), J1 y3 u5 x4 → ∀ (H : Heap) (locs : List Loc) (ls : Array Slot), HI G y0 y3 s H locs → lv_has ls 3 [(0, va_rf (some a0)), (2, .int (x4))] → W p l e (rmB (d + 288) B) s m args below meth c H locs u5 (20 * u5) (vx_MQ below (hQv G y0 post) (hX G y0 xp) args s B (20 * B) (HA y0)) (F0 m 121 ls []) := by
    intro y3 u5 x4 hw H locs ls hI hl
    replace hw := hj66 y3 u5 x4 hw
    obtain ⟨hu, hw⟩ := hw
    obtain ⟨J6, hj35, hw⟩ := hw
    have jh7 : ∀ (y8 : HS) (u9 : Nat), J6 y8 u9 → ∀ (H : Heap) (locs : List Loc) (ls : Array Slot), HI G y0 y8 s H locs → lv_has ls 3 [(0, va_rf (some a0))] → W p l e (rmB (d + 288) B) s m args below meth c H locs u9 (20 * u9) (vx_MQ below (hQv G y0 post) (hX G y0 xp) args s B (20 * B) (HA y0)) (F0 m 186 ls []) := by
      intro y8 u9 hw H locs ls hI hl
      replace hw := hj35 y8 u9 hw
      obtain ⟨hu, hw⟩ := hw
      refine hv_aload_n (r := some a0) E.1 E.2.1 dX6_line_186 rfl (lv_at hl 0 rfl) ?_
      refine lv_bipush (v := nI 59) E.1 E.2.1 dX6_line_187 rfl ?_
      obtain ⟨⟨fs11, hrv⟩, hw⟩ := hw
      obtain ⟨k12, hB, hw⟩ := hw
      have hq := hw
      clear hw
      refine hv_callv (u := u9) (B1 := k12) hI (vx_runV (As := [.int (nI 59)]) (rest := []) E (met_X6_sign l htr G (d + 279) hq) (cwV 1 E.2.2.2.2 (lw_V q1047 q1049 qs30 q129 q1050) rfl rfl rfl hd_X6_sign (rm_ok (by omega) (by decide))) (hv_preV hK hI hrv rfl) rfl rfl hl.1 rfl (lv_room (by first | rfl | decide | (simp [va_rf_cat, int_cat, long_cat]; done) | (simp [va_rf_cat, int_cat, long_cat]; decide))) dX6_line_189 (hv_fit (by first | exact hB | omega))) (fun ec q y1 H locs hx hI hc => hv_out hE hlocks hI hc (by first | exact hB | omega) hx) (fun y10 H locs hw hI => ?_)
      have hu := hB
      exact hv_vret E hr hlocks hI hu hw dX6_line_192
    refine lv_iload_n E.1 E.2.1 dX6_line_121 rfl (lv_at hl 1 rfl) ?_
    by_cases c13 : x4 = nI 0
    · replace hw := hw.1 c13
      have hti : x4.toInt = 0 := by rw [c13]; decide
      refine lv_tableIn (tgt := 152) (off := 30) E.1 E.2.1 dX6_line_122 (by rw [hti]; decide) (by rw [hti]; decide) (by rw [hti]; rfl) (by decide) ?_
      refine hv_aload_n (r := some a0) E.1 E.2.1 dX6_line_152 rfl (lv_at hl 0 rfl) ?_
      obtain ⟨⟨fs15, hrv⟩, hw⟩ := hw
      obtain ⟨k16, hB, hw⟩ := hw
      have hq := hw
      clear hw
      refine hv_callv (u := u5) (B1 := k16) hI (vx_runV (As := []) (rest := []) E (met_X6_chapter l htr G (d + 54) hq) (cwV 0 E.2.2.2.2 (lw_V q747 q749 qs13 q129 q750) rfl rfl rfl hd_X6_chapter (rm_ok (by omega) (by decide))) (hv_preV hK hI hrv rfl) rfl rfl hl.1 rfl (lv_room (by first | rfl | decide | (simp [va_rf_cat, int_cat, long_cat]; done) | (simp [va_rf_cat, int_cat, long_cat]; decide))) dX6_line_153 (hv_fit (by first | exact hB | omega))) (fun ec q y1 H locs hx hI hc => hv_out hE hlocks hI hc (by first | exact hB | omega) hx) (fun y14 H locs hw hI => ?_)
      have hu := hB
      refine lv_goto (tgt := 186) E.1 E.2.1 dX6_line_156 (by decide) ?_
      exact jh7 _ _ hw _ _ _ hI (lv_sub hl [0] rfl)
    replace hw := hw.2 c13
    by_cases c17 : x4 = nI 1
    · replace hw := hw.1 c17
      have hti : x4.toInt = 1 := by rw [c17]; decide
      refine lv_tableIn (tgt := 159) (off := 37) E.1 E.2.1 dX6_line_122 (by rw [hti]; decide) (by rw [hti]; decide) (by rw [hti]; rfl) (by decide) ?_
      refine hv_aload_n (r := some a0) E.1 E.2.1 dX6_line_159 rfl (lv_at hl 0 rfl) ?_
      obtain ⟨⟨fs19, hrv⟩, hw⟩ := hw
      obtain ⟨k20, hB, hw⟩ := hw
      have hq := hw
      clear hw
      refine hv_callv (u := u5) (B1 := k20) hI (vx_runV (As := []) (rest := []) E (met_X6_rank l htr G (d + 55) hq) (cwV 0 E.2.2.2.2 (lw_V q981 q983 qs24 q129 q984) rfl rfl rfl hd_X6_rank (rm_ok (by omega) (by decide))) (hv_preV hK hI hrv rfl) rfl rfl hl.1 rfl (lv_room (by first | rfl | decide | (simp [va_rf_cat, int_cat, long_cat]; done) | (simp [va_rf_cat, int_cat, long_cat]; decide))) dX6_line_160 (hv_fit (by first | exact hB | omega))) (fun ec q y1 H locs hx hI hc => hv_out hE hlocks hI hc (by first | exact hB | omega) hx) (fun y18 H locs hw hI => ?_)
      have hu := hB
      refine lv_goto (tgt := 186) E.1 E.2.1 dX6_line_163 (by decide) ?_
      exact jh7 _ _ hw _ _ _ hI (lv_sub hl [0] rfl)
    replace hw := hw.2 c17
    by_cases c21 : x4 = nI 2
    · replace hw := hw.1 c21
      have hti : x4.toInt = 2 := by rw [c21]; decide
      refine lv_tableIn (tgt := 166) (off := 44) E.1 E.2.1 dX6_line_122 (by rw [hti]; decide) (by rw [hti]; decide) (by rw [hti]; rfl) (by decide) ?_
      refine hv_aload_n (r := some a0) E.1 E.2.1 dX6_line_166 rfl (lv_at hl 0 rfl) ?_
      obtain ⟨⟨fs23, hrv⟩, hw⟩ := hw
      obtain ⟨k24, hB, hw⟩ := hw
      have hq := hw
      clear hw
      refine hv_callv (u := u5) (B1 := k24) hI (vx_runV (As := []) (rest := []) E (met_X6_partner l htr G (d + 54) hq) (cwV 0 E.2.2.2.2 (lw_V q1009 q1011 qs26 q129 q1012) rfl rfl rfl hd_X6_partner (rm_ok (by omega) (by decide))) (hv_preV hK hI hrv rfl) rfl rfl hl.1 rfl (lv_room (by first | rfl | decide | (simp [va_rf_cat, int_cat, long_cat]; done) | (simp [va_rf_cat, int_cat, long_cat]; decide))) dX6_line_167 (hv_fit (by first | exact hB | omega))) (fun ec q y1 H locs hx hI hc => hv_out hE hlocks hI hc (by first | exact hB | omega) hx) (fun y22 H locs hw hI => ?_)
      have hu := hB
      refine lv_goto (tgt := 186) E.1 E.2.1 dX6_line_170 (by decide) ?_
      exact jh7 _ _ hw _ _ _ hI (lv_sub hl [0] rfl)
    replace hw := hw.2 c21
    by_cases c25 : x4 = nI 3
    · replace hw := hw.1 c25
      have hti : x4.toInt = 3 := by rw [c25]; decide
      refine lv_tableIn (tgt := 173) (off := 51) E.1 E.2.1 dX6_line_122 (by rw [hti]; decide) (by rw [hti]; decide) (by rw [hti]; rfl) (by decide) ?_
      refine hv_aload_n (r := some a0) E.1 E.2.1 dX6_line_173 rfl (lv_at hl 0 rfl) ?_
      obtain ⟨⟨fs27, hrv⟩, hw⟩ := hw
      obtain ⟨k28, hB, hw⟩ := hw
      have hq := hw
      clear hw
      refine hv_callv (u := u5) (B1 := k28) hI (vx_runV (As := []) (rest := []) E (met_X6_tree l htr G (d) hq) (cwV 0 E.2.2.2.2 (lw_V q1035 q1037 qs27 q129 q1038) rfl rfl rfl hd_X6_tree (rm_ok (by omega) (by decide))) (hv_preV hK hI hrv rfl) rfl rfl hl.1 rfl (lv_room (by first | rfl | decide | (simp [va_rf_cat, int_cat, long_cat]; done) | (simp [va_rf_cat, int_cat, long_cat]; decide))) dX6_line_174 (hv_fit (by first | exact hB | omega))) (fun ec q y1 H locs hx hI hc => hv_out hE hlocks hI hc (by first | exact hB | omega) hx) (fun y26 H locs hw hI => ?_)
      have hu := hB
      refine lv_goto (tgt := 186) E.1 E.2.1 dX6_line_177 (by decide) ?_
      exact jh7 _ _ hw _ _ _ hI (lv_sub hl [0] rfl)
    replace hw := hw.2 c25
    refine lv_tableOut (tgt := 180) E.1 E.2.1 dX6_line_122 (tab_out (fun j h1 h2 h3 => ?_)) (by decide) ?_
    · have hj : j = 0 ∨ j = 1 ∨ j = 2 ∨ j = 3 := by omega
      rcases hj with rfl | rfl | rfl | rfl
      · exact c13 (Int32.toInt_inj.mp (by rw [h3]; decide))
      · exact c17 (Int32.toInt_inj.mp (by rw [h3]; decide))
      · exact c21 (Int32.toInt_inj.mp (by rw [h3]; decide))
      · exact c25 (Int32.toInt_inj.mp (by rw [h3]; decide))
    · skip
      refine hv_aload_n (r := some a0) E.1 E.2.1 dX6_line_180 rfl (lv_at hl 0 rfl) ?_
      refine lv_iconst (v := nI 1) E.1 E.2.1 dX6_line_181 rfl ?_
      obtain ⟨⟨fs31, hrv⟩, hw⟩ := hw
      obtain ⟨k32, hB, hw⟩ := hw
      have hq := hw
      clear hw
      refine hv_callq (u := u5) (B1 := k32) hI (vx_runV (As := [.int (nI 1)]) (rest := []) E (met_X6_wrong l htr G (d + 283) hq) (cwV 1 E.2.2.2.2 (lw_V q598 q600 qs10 q129 q601) rfl rfl rfl hd_X6_wrong (rm_ok (by omega) (by decide))) (hv_preV hK hI hrv rfl) rfl rfl hl.1 rfl (lv_room (by first | rfl | decide | (simp [va_rf_cat, int_cat, long_cat]; done) | (simp [va_rf_cat, int_cat, long_cat]; decide))) dX6_line_182 (hv_fit (by first | exact hB | omega))) (fun _ _ _ _ _ h => h.elim) (fun r30 y29 H locs hw hI => ?_)
      have hu := hB
      obtain ⟨a33, ea33, hw⟩ := hw
      revert hl hw; subst ea33; intro hl hw
      obtain ⟨fs34, hfs, hw⟩ := hw
      refine hv_athrow (q := a33) E dX6_line_185 ?_
      exact hv_out hE hlocks hI (hI.xcell hK (by decide) hfs) hu hw
  refine hv_aload_n (r := some a0) E.1 E.2.1 dX6_line_0 rfl (lv_at hl 0 rfl) ?_
  refine hv_aload_n (r := some a0) E.1 E.2.1 dX6_line_1 rfl (lv_at hl 0 rfl) ?_
  obtain ⟨f36, ⟨fs, hfs, hfk⟩, hw⟩ := hw
  refine hv_get (v := va_rf f36) E hK hI ciX6 4 (Nat.le_of_ble_eq_true rfl) q281 (fun _ h => h) (Or.inl hfs) hfk dX6_line_2 ?_
  obtain ⟨b37, hin, hw⟩ := hw
  refine hv_inst (cn := 20) E hK hI (by decide) q593 hin dX6_line_5 ?_
  refine lv_iconst (v := nI 1) E.1 E.2.1 dX6_line_8 rfl ?_
  obtain ⟨⟨fs39, hrv⟩, hw⟩ := hw
  obtain ⟨k40, hB, hw⟩ := hw
  have hq := hw
  clear hw
  refine hv_callv (u := 0) (B1 := k40) hI (vx_runV (As := [.int (bi b37), .int (nI 1)]) (rest := []) E (met_X6_must l htr G (d + 282) hq) (cwV 2 E.2.2.2.2 (lw_V q594 q596 qs9 q129 q597) rfl rfl rfl hd_X6_must (rm_ok (by omega) (by decide))) (hv_preV hK hI hrv rfl) rfl rfl hl.1 rfl (lv_room (by first | rfl | decide | (simp [va_rf_cat, int_cat, long_cat]; done) | (simp [va_rf_cat, int_cat, long_cat]; decide))) dX6_line_9 (hv_fit (by first | exact hB | omega))) (fun ec q y1 H locs hx hI hc => hv_out hE hlocks hI hc (by first | exact hB | omega) hx) (fun y38 H locs hw hI => ?_)
  have hu := hB
  refine hv_aload_n (r := some a0) E.1 E.2.1 dX6_line_12 rfl (lv_at hl 0 rfl) ?_
  obtain ⟨f41, ⟨fs, hfs, hfk⟩, hw⟩ := hw
  refine hv_get (v := va_rf f41) E hK hI ciX6 4 (Nat.le_of_ble_eq_true rfl) q281 (fun _ h => h) (Or.inl hfs) hfk dX6_line_13 ?_
  obtain ⟨hof, hw⟩ := hw
  refine hv_castC (cn := 20) E hK hI (by decide) q593 hof dX6_line_16 ?_
  refine hv_astore_n (r := f41) (lv' := [(1, va_rf f41), (0, va_rf (some a0))]) E.1 E.2.1 dX6_line_19 rfl hl (Nat.le_of_ble_eq_true rfl) (by first | rfl | decide | (simp [va_rf_cat, int_cat, long_cat]; done) | (simp [va_rf_cat, int_cat, long_cat]; decide)) (fun ls hl => ?_)
  refine lv_iconst (v := (-1)) E.1 E.2.1 dX6_line_20 rfl ?_
  refine lv_istore_n (lv' := [(2, .int ((-1))), (1, va_rf f41), (0, va_rf (some a0))]) E.1 E.2.1 dX6_line_21 rfl hl (Nat.le_of_ble_eq_true rfl) (by first | rfl | decide | (simp [va_rf_cat, int_cat, long_cat]; done) | (simp [va_rf_cat, int_cat, long_cat]; decide)) (fun ls hl => ?_)
  refine hv_aload_n (r := f41) E.1 E.2.1 dX6_line_22 rfl (lv_at hl 1 rfl) ?_
  obtain ⟨a42, ea42, hw⟩ := hw
  revert hl hw; subst ea42; intro hl hw
  obtain ⟨⟨fs45, hrv⟩, hw⟩ := hw
  have hq := hw
  clear hw
  refine hv_calli (u := ((0 + k40))) (B1 := 0) hI (vx_runV (As := []) (rest := []) E (met_J5_hashCode l G (d + 284) hq) (cwV 0 E.2.2.2.2 (lw_V q682 q683 q684 q132 q685) rfl rfl rfl hd_J5_hashCode (rm_ok (by omega) (by decide))) (hv_preV hK hI hrv rfl) rfl rfl hl.1 rfl (lv_room (by first | rfl | decide | (simp [va_rf_cat, int_cat, long_cat]; done) | (simp [va_rf_cat, int_cat, long_cat]; decide))) dX6_line_23 (hv_fit (by first | exact hu | omega))) (fun _ _ _ _ _ h => h.elim) (fun x44 y43 H locs hw hI => ?_)
  by_cases c46 : x44 = (-792929080)
  · replace hw := hw.1 c46
    have hti : x44.toInt = -792929080 := by rw [c46]; decide
    refine lv_lookup (tgt := 96) (off := 70) E.1 E.2.1 dX6_line_26 (by decide) (by rw [hti]; decide) (by decide) ?_
    refine hv_aload_n (r := some a42) E.1 E.2.1 dX6_line_96 rfl (lv_at hl 1 rfl) ?_
    refine hv_ldcS E hK 7 14 rfl dX6_line_97 ?_
    obtain ⟨⟨fs49, hrv⟩, hw⟩ := hw
    have hq := hw
    clear hw
    refine hv_callz (u := ((0 + k40))) (B1 := 0) hI (vx_runV (As := [va_rf (some (gK G 14))]) (rest := []) E (met_J5_equals l G (d + 286) hq) (cwV 1 E.2.2.2.2 (lw_V q736 q737 q738 q132 q739) rfl rfl rfl hd_J5_equals (rm_ok (by omega) (by decide))) (hv_preV hK hI hrv rfl) rfl rfl hl.1 rfl (lv_room (by first | rfl | decide | (simp [va_rf_cat, int_cat, long_cat]; done) | (simp [va_rf_cat, int_cat, long_cat]; decide))) dX6_line_99 (hv_fit (by first | exact hu | omega))) (fun _ _ _ _ _ h => h.elim) (fun b48 y47 H locs hw hI => ?_)
    refine lv_if_eq (tgt := 121) E.1 E.2.1 dX6_line_102 (by decide) (fun c50 => ?_) (fun c50 => ?_)
    · replace hw := hw.1 (bi_z c50)
      exact jh2 _ _ _ hw _ _ _ hI (lv_sub hl [2, 0] rfl)
    · replace hw := hw.2 (bi_n c50)
      refine lv_iconst (v := nI 2) E.1 E.2.1 dX6_line_105 rfl ?_
      refine lv_istore_n (lv' := [(2, .int (nI 2)), (1, va_rf (some a42)), (0, va_rf (some a0))]) E.1 E.2.1 dX6_line_106 rfl hl (Nat.le_of_ble_eq_true rfl) (by first | rfl | decide | (simp [va_rf_cat, int_cat, long_cat]; done) | (simp [va_rf_cat, int_cat, long_cat]; decide)) (fun ls hl => ?_)
      refine lv_goto (tgt := 121) E.1 E.2.1 dX6_line_107 (by decide) ?_
      exact jh2 _ _ _ hw _ _ _ hI (lv_sub hl [2, 0] rfl)
  replace hw := hw.2 c46
  by_cases c51 : x44 = nI 3492908
  · replace hw := hw.1 c51
    have hti : x44.toInt = 3492908 := by rw [c51]; decide
    refine lv_lookup (tgt := 82) (off := 56) E.1 E.2.1 dX6_line_26 (by decide) (by rw [hti]; decide) (by decide) ?_
    refine hv_aload_n (r := some a42) E.1 E.2.1 dX6_line_82 rfl (lv_at hl 1 rfl) ?_
    refine hv_ldcS E hK 6 15 rfl dX6_line_83 ?_
    obtain ⟨⟨fs54, hrv⟩, hw⟩ := hw
    have hq := hw
    clear hw
    refine hv_callz (u := ((0 + k40))) (B1 := 0) hI (vx_runV (As := [va_rf (some (gK G 15))]) (rest := []) E (met_J5_equals l G (d + 286) hq) (cwV 1 E.2.2.2.2 (lw_V q736 q737 q738 q132 q739) rfl rfl rfl hd_J5_equals (rm_ok (by omega) (by decide))) (hv_preV hK hI hrv rfl) rfl rfl hl.1 rfl (lv_room (by first | rfl | decide | (simp [va_rf_cat, int_cat, long_cat]; done) | (simp [va_rf_cat, int_cat, long_cat]; decide))) dX6_line_85 (hv_fit (by first | exact hu | omega))) (fun _ _ _ _ _ h => h.elim) (fun b53 y52 H locs hw hI => ?_)
    refine lv_if_eq (tgt := 121) E.1 E.2.1 dX6_line_88 (by decide) (fun c55 => ?_) (fun c55 => ?_)
    · replace hw := hw.1 (bi_z c55)
      exact jh2 _ _ _ hw _ _ _ hI (lv_sub hl [2, 0] rfl)
    · replace hw := hw.2 (bi_n c55)
      refine lv_iconst (v := nI 1) E.1 E.2.1 dX6_line_91 rfl ?_
      refine lv_istore_n (lv' := [(2, .int (nI 1)), (1, va_rf (some a42)), (0, va_rf (some a0))]) E.1 E.2.1 dX6_line_92 rfl hl (Nat.le_of_ble_eq_true rfl) (by first | rfl | decide | (simp [va_rf_cat, int_cat, long_cat]; done) | (simp [va_rf_cat, int_cat, long_cat]; decide)) (fun ls hl => ?_)
      refine lv_goto (tgt := 121) E.1 E.2.1 dX6_line_93 (by decide) ?_
      exact jh2 _ _ _ hw _ _ _ hI (lv_sub hl [2, 0] rfl)
  replace hw := hw.2 c51
  by_cases c56 : x44 = nI 3568542
  · replace hw := hw.1 c56
    have hti : x44.toInt = 3568542 := by rw [c56]; decide
    refine lv_lookup (tgt := 110) (off := 84) E.1 E.2.1 dX6_line_26 (by decide) (by rw [hti]; decide) (by decide) ?_
    refine hv_aload_n (r := some a42) E.1 E.2.1 dX6_line_110 rfl (lv_at hl 1 rfl) ?_
    refine hv_ldcS E hK 8 19 rfl dX6_line_111 ?_
    obtain ⟨⟨fs59, hrv⟩, hw⟩ := hw
    have hq := hw
    clear hw
    refine hv_callz (u := ((0 + k40))) (B1 := 0) hI (vx_runV (As := [va_rf (some (gK G 19))]) (rest := []) E (met_J5_equals l G (d + 286) hq) (cwV 1 E.2.2.2.2 (lw_V q736 q737 q738 q132 q739) rfl rfl rfl hd_J5_equals (rm_ok (by omega) (by decide))) (hv_preV hK hI hrv rfl) rfl rfl hl.1 rfl (lv_room (by first | rfl | decide | (simp [va_rf_cat, int_cat, long_cat]; done) | (simp [va_rf_cat, int_cat, long_cat]; decide))) dX6_line_113 (hv_fit (by first | exact hu | omega))) (fun _ _ _ _ _ h => h.elim) (fun b58 y57 H locs hw hI => ?_)
    refine lv_if_eq (tgt := 121) E.1 E.2.1 dX6_line_116 (by decide) (fun c60 => ?_) (fun c60 => ?_)
    · replace hw := hw.1 (bi_z c60)
      exact jh2 _ _ _ hw _ _ _ hI (lv_sub hl [2, 0] rfl)
    · replace hw := hw.2 (bi_n c60)
      refine lv_iconst (v := nI 3) E.1 E.2.1 dX6_line_119 rfl ?_
      refine lv_istore_n (lv' := [(2, .int (nI 3)), (1, va_rf (some a42)), (0, va_rf (some a0))]) E.1 E.2.1 dX6_line_120 rfl hl (Nat.le_of_ble_eq_true rfl) (by first | rfl | decide | (simp [va_rf_cat, int_cat, long_cat]; done) | (simp [va_rf_cat, int_cat, long_cat]; decide)) (fun ls hl => ?_)
      exact jh2 _ _ _ hw _ _ _ hI (lv_sub hl [2, 0] rfl)
  replace hw := hw.2 c56
  by_cases c61 : x44 = nI 739015757
  · replace hw := hw.1 c61
    have hti : x44.toInt = 739015757 := by rw [c61]; decide
    refine lv_lookup (tgt := 68) (off := 42) E.1 E.2.1 dX6_line_26 (by decide) (by rw [hti]; decide) (by decide) ?_
    refine hv_aload_n (r := some a42) E.1 E.2.1 dX6_line_68 rfl (lv_at hl 1 rfl) ?_
    refine hv_ldcS E hK 5 3 rfl dX6_line_69 ?_
    obtain ⟨⟨fs64, hrv⟩, hw⟩ := hw
    have hq := hw
    clear hw
    refine hv_callz (u := ((0 + k40))) (B1 := 0) hI (vx_runV (As := [va_rf (some (gK G 3))]) (rest := []) E (met_J5_equals l G (d + 286) hq) (cwV 1 E.2.2.2.2 (lw_V q736 q737 q738 q132 q739) rfl rfl rfl hd_J5_equals (rm_ok (by omega) (by decide))) (hv_preV hK hI hrv rfl) rfl rfl hl.1 rfl (lv_room (by first | rfl | decide | (simp [va_rf_cat, int_cat, long_cat]; done) | (simp [va_rf_cat, int_cat, long_cat]; decide))) dX6_line_71 (hv_fit (by first | exact hu | omega))) (fun _ _ _ _ _ h => h.elim) (fun b63 y62 H locs hw hI => ?_)
    refine lv_if_eq (tgt := 121) E.1 E.2.1 dX6_line_74 (by decide) (fun c65 => ?_) (fun c65 => ?_)
    · replace hw := hw.1 (bi_z c65)
      exact jh2 _ _ _ hw _ _ _ hI (lv_sub hl [2, 0] rfl)
    · replace hw := hw.2 (bi_n c65)
      refine lv_iconst (v := nI 0) E.1 E.2.1 dX6_line_77 rfl ?_
      refine lv_istore_n (lv' := [(2, .int (nI 0)), (1, va_rf (some a42)), (0, va_rf (some a0))]) E.1 E.2.1 dX6_line_78 rfl hl (Nat.le_of_ble_eq_true rfl) (by first | rfl | decide | (simp [va_rf_cat, int_cat, long_cat]; done) | (simp [va_rf_cat, int_cat, long_cat]; decide)) (fun ls hl => ?_)
      refine lv_goto (tgt := 121) E.1 E.2.1 dX6_line_79 (by decide) ?_
      exact jh2 _ _ _ hw _ _ _ hI (lv_sub hl [2, 0] rfl)
  replace hw := hw.2 c61
  refine lv_lookup (tgt := 121) (off := 95) E.1 E.2.1 dX6_line_26 (by decide) ((lv_osw c46 (by decide)).trans ((lv_osw c51 (by decide)).trans ((lv_osw c56 (by decide)).trans ((lv_osw c61 (by decide)).trans rfl)))) (by decide) ?_
  · skip
    exact jh2 _ _ _ hw _ _ _ hI (lv_sub hl [2, 0] rfl)
/-- CaseGrouper$Reader.whole()LCaseGrouper$Edition; -/
def wp_X6_whole (G : GP) (B : Nat) (post : Option Nat → HS → Prop) (xp : Nat → Nat → HS → Prop) (y0 : HS) (a0 : Nat) : Prop := (∃ fs2, rd G y0 a0 (ob 4 fs2)) ∧ ∃ k3, 0 + k3 ≤ B ∧ wp_X6_next G k3 (fun y1 => ∃ I4 : Nat → HS → Nat → Prop, (∃ n10, I4 n10 y1 ((0 + k3)) ) ∧ ∀ (n5 : Nat) (y6 : HS) (u9 : Nat), I4 n5 y6 u9 → u9 ≤ B ∧ ∃ J11 : HS → Nat → (Option Nat) → Prop, (∀ (y13 : HS) (u15 : Nat) (r14 : Option Nat), J11 y13 u15 r14 → u15 ≤ B ∧ u15 + 1 ≤ B ∧ ∀ a17, a17 = y13.2 → ∀ y16, y16 = hnew y13 (ob 15 [va_rf none, va_rf none, va_rf none, va_rf none, va_rf none, .int 0, .int 0]) → ∃ f18, fI y16 a0 4 7 f18 ∧ wp_X17_init G (fun y19 => ∃ fs20, y19.1 a17 = some (ob 15 fs20) ∧ xp 15 a17 y19) y16 a17 f18 r14) ∧ (∃ f21, fI y6 a0 4 5 f21 ∧ (¬ f21 = 0 → ∃ I23 : Nat → HS → Nat → Int32 → Prop, (∃ n30, I23 n30 y6 u9 (nI 0)) ∧ ∀ (n24 : Nat) (y25 : HS) (u29 : Nat) (x28 : Int32), I23 n24 y25 u29 x28 → u29 ≤ B ∧ ∃ f31, fR y25 a0 4 1 f31 ∧ ∃ a32, f31 = some a32 ∧ ∃ f33, fR y25 a32 1 0 f33 ∧ ∃ a34, f33 = some a34 ∧ (∃ fs37, rd G y25 a34 (ob 18 fs37)) ∧ wp_J2_size G (fun x36 y35 => (x36 ≤ x28 → ∃ f39, fR y35 a0 4 1 f39 ∧ ∃ a40, f39 = some a40 ∧ (∃ fs42, rd G y35 a40 (ob 1 fs42)) ∧ ∃ k43, u29 + k43 ≤ B ∧ wp_X2_ends G k43 (fun y41 => ∃ f44, fR y41 a0 4 1 f44 ∧ post f44 y41) y35 a40) ∧ (¬ x36 ≤ x28 → ∃ J45 : HS → Nat → Bool → (Option Nat) → Prop, (∀ (y47 : HS) (u50 : Nat) (b48 : Bool) (r49 : Option Nat), J45 y47 u50 b48 r49 → u50 ≤ B ∧ ∃ a51, r49 = some a51 ∧ (∃ fs53, rd G y47 a51 (ob 4 fs53)) ∧ ∃ k54, u50 + k54 ≤ B ∧ wp_X6_must G k54 (fun y52 => ∃ n55, n55 < n24 ∧ I23 n55 y52 ((u50 + k54)) (x28 + nI 1)) (fun ec58 q56 y57 => ec58 = 6 ∧ J11 y57 ((u50 + k54)) (some q56)) y47 a51 b48 (nI 5)) ∧ (∃ f59, fR y35 a0 4 1 f59 ∧ ∃ a60, f59 = some a60 ∧ ∃ f61, fR y35 a60 1 0 f61 ∧ ∃ a62, f61 = some a62 ∧ (∃ fs65, rd G y35 a62 (ob 18 fs65)) ∧ wp_J2_get G (fun r64 y63 => isOf G y63 r64 7 ∧ ∃ a66, r64 = some a66 ∧ ∃ f67, fR y63 a66 7 2 f67 ∧ (f67 = none → J45 y63 u29 false (some a0)) ∧ (∀ a69, f67 = some a69 → J45 y63 u29 true (some a0))) y35 a62 x28))) y25 a34) ∧ (f21 = 0 → (∃ fs74, rd G y6 a0 (ob 4 fs74)) ∧ ∃ k75, u9 + k75 ≤ B ∧ wp_X6_line G k75 (fun y73 => ∃ f76, fI y73 a0 4 7 f76 ∧ ∃ fs78, y73.1 a0 = some (ob 4 fs78) ∧ 7 < fs78.length ∧ ∀ y77, y77 = hput y73 a0 (ob 4 (fs78.set 7 (.int (f76 + (nI 1))))) → ∃ n79, n79 < n5 ∧ I4 n79 y77 ((u9 + k75)) ) (fun ec82 q80 y81 => ec82 = 6 ∧ J11 y81 ((u9 + k75)) (some q80)) y6 a0))) y0 a0
theorem hs_X6_whole : yX6_whole.cls ≠ "java/lang/invoke/MethodHandle" ∧ yX6_whole.cls ≠ "java/lang/invoke/VarHandle" ∧ (parseMethodDescriptor yX6_whole.desc).map (fun d => d.parameters.length) = some 0 := by decide +kernel
theorem hd_X6_whole : yX6_whole.cls = RX6 ∧ yX6_whole.cls ≠ "java/lang/invoke/MethodHandle" ∧ yX6_whole.cls ≠ "java/lang/invoke/VarHandle" ∧ (parseMethodDescriptor yX6_whole.desc).map (fun d => d.parameters.length) = some 0 := by decide +kernel
set_option maxHeartbeats 4000000 in
theorem met_X6_whole (l : Launch) (htr : l.stackTraces = false) (G : GP) (d : Nat) {B : Nat} {post : Option Nat → HS → Prop} {xp : Nat → Nat → HS → Prop} {y0 : HS} {a0 : Nat} (hw : wp_X6_whole G B post xp y0 a0) : vx_Met l yX6_whole (wsW_ yX6_whole cX6_whole 2 (some (.object "CaseGrouper$Edition")) [(0, 80, 83, 37)]) (rmB (d + 289) B) (hPc G y0 [va_rf (some a0)]) (hQq G y0 post) (hX G y0 xp) B (20 * B) (HA y0) := by
  unfold wp_X6_whole at hw
  refine hv_metH (hh := [(0, 80, 83, 37)]) (own := RX6) (by decide) rfl (Nat.le_of_ble_eq_true rfl) ?_
  intro p e s m args below meth c ls E hr hlocks hnm hE hK hI hl
  replace hl : lv_has ls 2 [(0, va_rf (some a0))] := hl
  have hu : 0 ≤ B := Nat.zero_le _
  refine hv_aload_n (r := some a0) E.1 E.2.1 dX6_whole_0 rfl (lv_at hl 0 rfl) ?_
  obtain ⟨⟨fs2, hrv⟩, hw⟩ := hw
  obtain ⟨k3, hB, hw⟩ := hw
  have hq := hw
  clear hw
  refine hv_callv (u := 0) (B1 := k3) hI (vx_runV (As := []) (rest := []) E (met_X6_next l htr G (d + 281) hq) (cwV 0 E.2.2.2.2 (lw_V q314 q316 qs1 q129 q317) rfl rfl rfl hd_X6_next (rm_ok (by omega) (by decide))) (hv_preV hK hI hrv rfl) rfl rfl hl.1 rfl (lv_room (by first | rfl | decide | (simp [va_rf_cat, int_cat, long_cat]; done) | (simp [va_rf_cat, int_cat, long_cat]; decide))) dX6_whole_1 (hv_fit (by first | exact hB | omega))) (fun _ _ _ _ _ h => h.elim) (fun y1 H locs hw hI => ?_)
  have hu := hB
  obtain ⟨I4, ⟨n10, hi85⟩, hb84⟩ := hw
  have L8 : ∀ (n5 : Nat) (y6 : HS) (u9 : Nat), I4 n5 y6 u9 → ∀ (H : Heap) (locs : List Loc) (ls : Array Slot), HI G y0 y6 s H locs → lv_has ls 2 [(0, va_rf (some a0))] → W p l e (rmB (d + 289) B) s m args below meth c H locs u9 (20 * u9) (vx_MQ below (hQq G y0 post) (hX G y0 xp) args s B (20 * B) (HA y0)) (F0 m 4 ls []) := by
    intro n5
    induction n5 using Nat.strongRecOn with
    | _ n5 ih7 =>
      intro y6 u9 hw H locs ls hI hl
      replace hw := hb84 n5 y6 u9 hw
      obtain ⟨hu, hw⟩ := hw
      obtain ⟨J11, hj83, hw⟩ := hw
      have jh12 : ∀ (y13 : HS) (u15 : Nat) (r14 : Option Nat), J11 y13 u15 r14 → ∀ (H : Heap) (locs : List Loc) (ls : Array Slot), HI G y0 y13 s H locs → lv_has ls 2 [(0, va_rf (some a0))] → W p l e (rmB (d + 289) B) s m args below meth c H locs u15 (20 * u15) (vx_MQ below (hQq G y0 post) (hX G y0 xp) args s B (20 * B) (HA y0)) (F0 m 83 ls [va_rf r14]) := by
        intro y13 u15 r14 hw H locs ls hI hl
        replace hw := hj83 y13 u15 r14 hw
        obtain ⟨hu, hw⟩ := hw
        refine hv_astore_n (r := r14) (lv' := [(1, va_rf r14), (0, va_rf (some a0))]) E.1 E.2.1 dX6_whole_83 rfl hl (Nat.le_of_ble_eq_true rfl) (by first | rfl | decide | (simp [va_rf_cat, int_cat, long_cat]; done) | (simp [va_rf_cat, int_cat, long_cat]; decide)) (fun ls hl => ?_)
        obtain ⟨hu, hw⟩ := hw
        refine hv_new (fs := [va_rf none, va_rf none, va_rf none, va_rf none, va_rf none, .int 0, .int 0]) E hK hI ciX17 q1218 q1219 q161 (df15) (Nat.le_of_ble_eq_true rfl) hu dX6_whole_84 (fun H hI => ?_)
        obtain ⟨a17, ea17⟩ : ∃ w, w = y13.2 := ⟨_, rfl⟩
        obtain ⟨y16, ey16⟩ : ∃ w, w = hnew y13 (ob 15 [va_rf none, va_rf none, va_rf none, va_rf none, va_rf none, .int 0, .int 0]) := ⟨_, rfl⟩
        rw [← ea17]
        rw [← ey16] at hI
        replace hw := hw a17 ea17 y16 ey16
        refine hv_dup E.1 E.2.1 dX6_whole_87 ?_
        refine hv_aload_n (r := some a0) E.1 E.2.1 dX6_whole_88 rfl (lv_at hl 1 rfl) ?_
        obtain ⟨f18, ⟨fs, hfs, hfk⟩, hw⟩ := hw
        refine hv_get (v := .int f18) E hK hI ciX6 7 (Nat.le_of_ble_eq_true rfl) q285 (fun _ h => h) (Or.inl hfs) hfk dX6_whole_89 ?_
        refine hv_aload_n (r := r14) E.1 E.2.1 dX6_whole_92 rfl (lv_at hl 0 rfl) ?_
        have hq := hw
        clear hw
        refine hv_callv (u := ((u15 + 1))) (B1 := 0) hI (vx_runI (b := a17) (As := [.int (f18), va_rf r14]) (rest := [va_rf (some a17)]) E (met_X17_init l G (d + 285) hq) (cwI 2 E.2.2.2.2 (lw_meth q1229) rfl rfl rfl (E.2.2.2.2 _ q161) (E.2.2.2.2 _ q1227) (E.2.2.2.2 _ q1228) rfl hs_X17_init (rm_ok (by omega) (by decide))) (hv_preS hK hI) rfl rfl hl.1 rfl (lv_room (by first | rfl | decide | (simp [va_rf_cat, int_cat, long_cat]; done) | (simp [va_rf_cat, int_cat, long_cat]; decide))) dX6_whole_93 (hv_fit (by first | exact hu | omega))) (fun _ _ _ _ _ h => h.elim) (fun y19 H locs hw hI => ?_)
        obtain ⟨fs20, hfs, hw⟩ := hw
        refine hv_athrow (q := a17) E dX6_whole_96 ?_
        exact hv_outH E hlocks (by rw [hE]; intro x hx; simp only [List.map_cons, List.map_nil, List.mem_cons, List.not_mem_nil, or_false] at hx; first | (rcases hx with rfl | rfl <;> rfl) | (subst hx; rfl)) hI (hI.xcell hK (by decide) hfs) hu hw
      refine hv_aload_n (r := some a0) E.1 E.2.1 dX6_whole_4 rfl (lv_at hl 0 rfl) ?_
      obtain ⟨f21, ⟨fs, hfs, hfk⟩, hw⟩ := hw
      refine hv_get (v := .int f21) E hK hI ciX6 5 (Nat.le_of_ble_eq_true rfl) q282 (fun _ h => h) (Or.inl hfs) hfk dX6_whole_5 ?_
      refine lv_if_ne (tgt := 28) E.1 E.2.1 dX6_whole_8 (by decide) (fun c22 => ?_) (fun c22 => ?_)
      · replace hw := hw.1 (c22)
        refine lv_iconst (v := nI 0) E.1 E.2.1 dX6_whole_28 rfl ?_
        refine lv_istore_n (lv' := [(1, .int (nI 0)), (0, va_rf (some a0))]) E.1 E.2.1 dX6_whole_29 rfl hl (Nat.le_of_ble_eq_true rfl) (by first | rfl | decide | (simp [va_rf_cat, int_cat, long_cat]; done) | (simp [va_rf_cat, int_cat, long_cat]; decide)) (fun ls hl => ?_)
        obtain ⟨I23, ⟨n30, hi72⟩, hb71⟩ := hw
        have L27 : ∀ (n24 : Nat) (y25 : HS) (u29 : Nat) (x28 : Int32), I23 n24 y25 u29 x28 → ∀ (H : Heap) (locs : List Loc) (ls : Array Slot), HI G y0 y25 s H locs → lv_has ls 2 [(0, va_rf (some a0)), (1, .int (x28))] → W p l e (rmB (d + 289) B) s m args below meth c H locs u29 (20 * u29) (vx_MQ below (hQq G y0 post) (hX G y0 xp) args s B (20 * B) (HA y0)) (F0 m 30 ls []) := by
          intro n24
          induction n24 using Nat.strongRecOn with
          | _ n24 ih26 =>
            intro y25 u29 x28 hw H locs ls hI hl
            replace hw := hb71 n24 y25 u29 x28 hw
            obtain ⟨hu, hw⟩ := hw
            refine lv_iload_n E.1 E.2.1 dX6_whole_30 rfl (lv_at hl 1 rfl) ?_
            refine hv_aload_n (r := some a0) E.1 E.2.1 dX6_whole_31 rfl (lv_at hl 0 rfl) ?_
            obtain ⟨f31, ⟨fs, hfs, hfk⟩, hw⟩ := hw
            refine hv_get (v := va_rf f31) E hK hI ciX6 1 (Nat.le_of_ble_eq_true rfl) q278 (fun _ h => h) (Or.inl hfs) hfk dX6_whole_32 ?_
            obtain ⟨a32, ea32, hw⟩ := hw
            revert hl hw; subst ea32; intro hl hw
            obtain ⟨f33, ⟨fs, hfs, hfk⟩, hw⟩ := hw
            refine hv_getN (v := va_rf f33) E hK hI ciX2 0 (Nat.le_of_ble_eq_true rfl) q232 (fun _ h => h) (Or.inl hfs) hfk dX6_whole_35 ?_
            obtain ⟨a34, ea34, hw⟩ := hw
            revert hl hw; subst ea34; intro hl hw
            obtain ⟨⟨fs37, hrv⟩, hw⟩ := hw
            have hq := hw
            clear hw
            refine hv_calli (u := u29) (B1 := 0) hI (vx_runV (As := []) (rest := [.int (x28)]) E (met_J2_size l G (d + 288) hq) (cwV 0 E.2.2.2.2 (lw_V q751 q752 q753 q124 q754) rfl rfl rfl hd_J2_size (rm_ok (by omega) (by decide))) (hv_preV hK hI hrv rfl) rfl rfl hl.1 rfl (lv_room (by first | rfl | decide | (simp [va_rf_cat, int_cat, long_cat]; done) | (simp [va_rf_cat, int_cat, long_cat]; decide))) dX6_whole_38 (hv_fit (by first | exact hu | omega))) (fun _ _ _ _ _ h => h.elim) (fun x36 y35 H locs hw hI => ?_)
            refine lv_icmp_ge (tgt := 80) E.1 E.2.1 dX6_whole_41 (by decide) (fun c38 => ?_) (fun c38 => ?_)
            · replace hw := hw.1 (c38)
              refine lv_goto (tgt := 97) E.1 E.2.1 dX6_whole_80 (by decide) ?_
              refine hv_aload_n (r := some a0) E.1 E.2.1 dX6_whole_97 rfl (lv_at hl 0 rfl) ?_
              obtain ⟨f39, ⟨fs, hfs, hfk⟩, hw⟩ := hw
              refine hv_get (v := va_rf f39) E hK hI ciX6 1 (Nat.le_of_ble_eq_true rfl) q278 (fun _ h => h) (Or.inl hfs) hfk dX6_whole_98 ?_
              obtain ⟨a40, ea40, hw⟩ := hw
              revert hl hw; subst ea40; intro hl hw
              obtain ⟨⟨fs42, hrv⟩, hw⟩ := hw
              obtain ⟨k43, hB, hw⟩ := hw
              have hq := hw
              clear hw
              refine hv_callv (u := u29) (B1 := k43) hI (vx_runV (As := []) (rest := []) E (met_X2_ends l G (d + 228) hq) (cwV 0 E.2.2.2.2 (lw_V q1237 q1238 q1239 q125 q1240) rfl rfl rfl hd_X2_ends (rm_ok (by omega) (by decide))) (hv_preV hK hI hrv rfl) rfl rfl hl.1 rfl (lv_room (by first | rfl | decide | (simp [va_rf_cat, int_cat, long_cat]; done) | (simp [va_rf_cat, int_cat, long_cat]; decide))) dX6_whole_101 (hv_fit (by first | exact hB | omega))) (fun _ _ _ _ _ h => h.elim) (fun y41 H locs hw hI => ?_)
              have hu := hB
              refine hv_aload_n (r := some a0) E.1 E.2.1 dX6_whole_104 rfl (lv_at hl 0 rfl) ?_
              obtain ⟨f44, ⟨fs, hfs, hfk⟩, hw⟩ := hw
              refine hv_get (v := va_rf f44) E hK hI ciX6 1 (Nat.le_of_ble_eq_true rfl) q278 (fun _ h => h) (Or.inl hfs) hfk dX6_whole_105 ?_
              exact hv_aret (r := f44) E hr (Or.inl ⟨_, rfl⟩) hlocks hI hu hw dX6_whole_108
            · replace hw := hw.2 (c38)
              obtain ⟨J45, hj70, hw⟩ := hw
              have jh46 : ∀ (y47 : HS) (u50 : Nat) (b48 : Bool) (r49 : Option Nat), J45 y47 u50 b48 r49 → ∀ (H : Heap) (locs : List Loc) (ls : Array Slot), HI G y0 y47 s H locs → lv_has ls 2 [(0, va_rf (some a0)), (1, .int (x28))] → W p l e (rmB (d + 289) B) s m args below meth c H locs u50 (20 * u50) (vx_MQ below (hQq G y0 post) (hX G y0 xp) args s B (20 * B) (HA y0)) (F0 m 70 ls [.int (bi b48), va_rf r49]) := by
                intro y47 u50 b48 r49 hw H locs ls hI hl
                replace hw := hj70 y47 u50 b48 r49 hw
                obtain ⟨hu, hw⟩ := hw
                refine lv_iconst (v := nI 5) E.1 E.2.1 dX6_whole_70 rfl ?_
                obtain ⟨a51, ea51, hw⟩ := hw
                revert hl hw; subst ea51; intro hl hw
                obtain ⟨⟨fs53, hrv⟩, hw⟩ := hw
                obtain ⟨k54, hB, hw⟩ := hw
                have hq := hw
                clear hw
                refine hv_callv (u := u50) (B1 := k54) hI (vx_runV (As := [.int (bi b48), .int (nI 5)]) (rest := []) E (met_X6_must l htr G (d + 283) hq) (cwV 2 E.2.2.2.2 (lw_V q594 q596 qs9 q129 q597) rfl rfl rfl hd_X6_must (rm_ok (by omega) (by decide))) (hv_preV hK hI hrv rfl) rfl rfl hl.1 rfl (lv_room (by first | rfl | decide | (simp [va_rf_cat, int_cat, long_cat]; done) | (simp [va_rf_cat, int_cat, long_cat]; decide))) dX6_whole_71 (hv_fit (by first | exact hB | omega))) (fun ec q56 y57 H locs hw hI hc => ?_) (fun y52 H locs hw hI => ?_)
                · obtain ⟨rfl, hw⟩ := hw
                  have hu := hB
                  refine hv_catch0 (ec := 6) E hK hE (by decide) (by decide) q313 q603 hc ?_
                  exact jh12 _ _ _ hw _ _ _ hI (lv_sub hl [0] rfl)
                · skip
                  have hu := hB
                  refine lv_iinc (k := 1) (v := x28 + nI 1) (lv' := [(1, .int (x28 + nI 1)), (0, va_rf (some a0))]) E.1 E.2.1 dX6_whole_74 hl rfl rfl (Nat.le_of_ble_eq_true rfl) (by first | rfl | decide | (simp [va_rf_cat, int_cat, long_cat]; done) | (simp [va_rf_cat, int_cat, long_cat]; decide)) (fun ls hl => ?_)
                  refine lv_goto (tgt := 30) E.1 E.2.1 dX6_whole_77 (by decide) ?_
                  obtain ⟨n55, hnn55, hin55⟩ := hw
                  exact ih26 n55 hnn55 _ _ _ hin55 _ _ _ hI (lv_sub hl [1, 0] rfl)
              refine hv_aload_n (r := some a0) E.1 E.2.1 dX6_whole_44 rfl (lv_at hl 0 rfl) ?_
              refine hv_aload_n (r := some a0) E.1 E.2.1 dX6_whole_45 rfl (lv_at hl 0 rfl) ?_
              obtain ⟨f59, ⟨fs, hfs, hfk⟩, hw⟩ := hw
              refine hv_get (v := va_rf f59) E hK hI ciX6 1 (Nat.le_of_ble_eq_true rfl) q278 (fun _ h => h) (Or.inl hfs) hfk dX6_whole_46 ?_
              obtain ⟨a60, ea60, hw⟩ := hw
              revert hl hw; subst ea60; intro hl hw
              obtain ⟨f61, ⟨fs, hfs, hfk⟩, hw⟩ := hw
              refine hv_getN (v := va_rf f61) E hK hI ciX2 0 (Nat.le_of_ble_eq_true rfl) q232 (fun _ h => h) (Or.inl hfs) hfk dX6_whole_49 ?_
              refine lv_iload_n E.1 E.2.1 dX6_whole_52 rfl (lv_at hl 1 rfl) ?_
              obtain ⟨a62, ea62, hw⟩ := hw
              revert hl hw; subst ea62; intro hl hw
              obtain ⟨⟨fs65, hrv⟩, hw⟩ := hw
              have hq := hw
              clear hw
              refine hv_callq (u := u29) (B1 := 0) hI (vx_runV (As := [.int (x28)]) (rest := [va_rf (some a0)]) E (met_J2_get l G (d + 286) hq) (cwV 1 E.2.2.2.2 (lw_V q1145 q785 q786 q124 q787) rfl rfl rfl hd_J2_get (rm_ok (by omega) (by decide))) (hv_preV hK hI hrv rfl) rfl rfl hl.1 rfl (lv_room (by first | rfl | decide | (simp [va_rf_cat, int_cat, long_cat]; done) | (simp [va_rf_cat, int_cat, long_cat]; decide))) dX6_whole_53 (hv_fit (by first | exact hu | omega))) (fun _ _ _ _ _ h => h.elim) (fun r64 y63 H locs hw hI => ?_)
              obtain ⟨hof, hw⟩ := hw
              refine hv_castC (cn := 7) E hK hI (by decide) q798 hof dX6_whole_56 ?_
              obtain ⟨a66, ea66, hw⟩ := hw
              revert hl hw; subst ea66; intro hl hw
              obtain ⟨f67, ⟨fs, hfs, hfk⟩, hw⟩ := hw
              refine hv_getN (v := va_rf f67) E hK hI ciX9 2 (Nat.le_of_ble_eq_true rfl) q813 (fun _ h => h) (Or.inl hfs) hfk dX6_whole_59 ?_
              refine hv_ifnull (r := f67) (tgt := 69) E.1 E.2.1 dX6_whole_62 (by decide) (fun c68 => ?_) (fun a69 c68 => ?_)
              · replace hw := hw.1 c68
                refine lv_iconst (v := nI 0) E.1 E.2.1 dX6_whole_69 rfl ?_
                exact jh46 _ _ _ _ hw _ _ _ hI (lv_sub hl [0, 1] rfl)
              · replace hw := hw.2 a69 c68
                revert hl hw; subst c68; intro hl hw
                refine lv_iconst (v := nI 1) E.1 E.2.1 dX6_whole_65 rfl ?_
                refine lv_goto (tgt := 70) E.1 E.2.1 dX6_whole_66 (by decide) ?_
                exact jh46 _ _ _ _ hw _ _ _ hI (lv_sub hl [0, 1] rfl)
        exact L27 n30 _ _ _ hi72 _ _ _ hI (lv_sub hl [1, 0] rfl)
      · replace hw := hw.2 (c22)
        refine hv_aload_n (r := some a0) E.1 E.2.1 dX6_whole_11 rfl (lv_at hl 0 rfl) ?_
        obtain ⟨⟨fs74, hrv⟩, hw⟩ := hw
        obtain ⟨k75, hB, hw⟩ := hw
        have hq := hw
        clear hw
        refine hv_callv (u := u9) (B1 := k75) hI (vx_runV (As := []) (rest := []) E (met_X6_line l htr G (d) hq) (cwV 0 E.2.2.2.2 (lw_V q589 q591 qs8 q129 q592) rfl rfl rfl hd_X6_line (rm_ok (by omega) (by decide))) (hv_preV hK hI hrv rfl) rfl rfl hl.1 rfl (lv_room (by first | rfl | decide | (simp [va_rf_cat, int_cat, long_cat]; done) | (simp [va_rf_cat, int_cat, long_cat]; decide))) dX6_whole_12 (hv_fit (by first | exact hB | omega))) (fun ec q80 y81 H locs hw hI hc => ?_) (fun y73 H locs hw hI => ?_)
        · obtain ⟨rfl, hw⟩ := hw
          have hu := hB
          refine hv_catch0 (ec := 6) E hK hE (by decide) (by decide) q313 q603 hc ?_
          exact jh12 _ _ _ hw _ _ _ hI (lv_sub hl [0] rfl)
        · skip
          have hu := hB
          refine hv_aload_n (r := some a0) E.1 E.2.1 dX6_whole_15 rfl (lv_at hl 0 rfl) ?_
          refine hv_dup E.1 E.2.1 dX6_whole_16 ?_
          obtain ⟨f76, ⟨fs, hfs, hfk⟩, hw⟩ := hw
          refine hv_get (v := .int f76) E hK hI ciX6 7 (Nat.le_of_ble_eq_true rfl) q285 (fun _ h => h) (Or.inl hfs) hfk dX6_whole_17 ?_
          refine lv_iconst (v := nI 1) E.1 E.2.1 dX6_whole_20 rfl ?_
          refine lv_iadd E.1 E.2.1 dX6_whole_21 ?_
          obtain ⟨fs78, hfs, hln, hw⟩ := hw
          refine hv_put (v := .int (f76 + (nI 1))) E hK hI ciX6 7 (Nat.le_of_ble_eq_true rfl) q285 (fun _ h => h) rfl rfl rfl hfs hln dX6_whole_22 (fun H locs hI => ?_)
          obtain ⟨y77, ey77⟩ : ∃ w, w = hput y73 a0 (ob 4 (fs78.set 7 (.int (f76 + (nI 1))))) := ⟨_, rfl⟩
          rw [← ey77] at hI
          replace hw := hw y77 ey77
          refine lv_goto (tgt := 4) E.1 E.2.1 dX6_whole_25 (by decide) ?_
          obtain ⟨n79, hnn79, hin79⟩ := hw
          exact ih7 n79 hnn79 _ _ hin79 _ _ _ hI (lv_sub hl [0] rfl)
  exact L8 n10 _ _ hi85 _ _ _ hI (lv_sub hl [0] rfl)
