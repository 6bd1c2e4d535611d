/-! the component, part a: weakest preconditions and walks (printed) -/
set_option maxRecDepth 100000
/-- CaseGrouper$Code.<init>(I)V -/
def wp_X7_init (G : GP) (post : HS → Prop) (y0 : HS) (a0 : Nat) (i1 : Int32) : Prop := ∃ fs2, y0.1 a0 = some (ob 5 fs2) ∧ 0 < fs2.length ∧ ∀ y1, y1 = hput y0 a0 (ob 5 (fs2.set 0 (.int (i1)))) → post y1
theorem hs_X7_init : yX7_init.cls ≠ "java/lang/invoke/MethodHandle" ∧ yX7_init.cls ≠ "java/lang/invoke/VarHandle" ∧ (parseMethodDescriptor yX7_init.desc).map (fun d => d.parameters.length) = some 1 := by decide +kernel
set_option maxHeartbeats 4000000 in
theorem met_X7_init (l : Launch) (G : GP) (d : Nat) {post : HS → Prop} {y0 : HS} {a0 : Nat} {i1 : Int32} (hw : wp_X7_init G post y0 a0 i1) : vx_Met l yX7_init (ws_ yX7_init cX7_init 2 none) (rmB (d + 1) 0) (hPc G y0 [va_rf (some a0), .int (i1)]) (hQv G y0 post) (hX G y0 (fun _ _ _ => False)) 0 (20 * 0) (HA y0) := by
  unfold wp_X7_init at hw
  refine hv_met (own := RX7) (by decide) rfl (Nat.le_of_ble_eq_true rfl) ?_
  intro p e s m args below meth c ls E hr hlocks hnm hE hK hI hl
  replace hl : lv_has ls 2 [(0, va_rf (some a0)), (1, .int (i1))] := hl
  refine hv_aload_n (r := some a0) E.1 E.2.1 dX7_init_0 rfl (lv_at hl 0 rfl) ?_
  refine hv_objInit (r := some a0) E q568 hl.1 rfl (by first | rfl | decide | (simp [va_rf_cat, int_cat, long_cat]; done) | (simp [va_rf_cat, int_cat, long_cat]; decide)) dX7_init_1 ?_
  refine hv_aload_n (r := some a0) E.1 E.2.1 dX7_init_4 rfl (lv_at hl 0 rfl) ?_
  refine lv_iload_n E.1 E.2.1 dX7_init_5 rfl (lv_at hl 1 rfl) ?_
  obtain ⟨fs2, hfs, hln, hw⟩ := hw
  refine hv_putF (v := .int (i1)) E hK hI ciX7 0 (Nat.le_of_ble_eq_true rfl) q569 (fun _ h => h) rfl hnm rfl rfl rfl hfs hln dX7_init_6 (fun H locs hI => ?_)
  obtain ⟨y1, ey1⟩ : ∃ w, w = hput y0 a0 (ob 5 (fs2.set 0 (.int (i1)))) := ⟨_, rfl⟩
  rw [← ey1] at hI
  replace hw := hw y1 ey1
  exact hv_vret E hr hlocks hI (Nat.le_refl 0) hw dX7_init_9
/-- CaseGrouper$Chapter.<init>(Ljava/lang/String;)V -/
def wp_X9_init (G : GP) (B : Nat) (post : HS → Prop) (y0 : HS) (a0 : Nat) (p1 : Option Nat) : Prop := 0 + 1 ≤ B ∧ ∀ a2, a2 = y0.2 → ∀ y1, y1 = hnew y0 (ob 18 [.int 0, va_rf none, .int 0]) → wp_J2_init G (fun y3 => ∃ fs5, y3.1 a0 = some (ob 7 fs5) ∧ 1 < fs5.length ∧ ∀ y4, y4 = hput y3 a0 (ob 7 (fs5.set 1 (va_rf (some a2)))) → (0 + 1) + 1 ≤ B ∧ ∀ a7, a7 = y4.2 → ∀ y6, y6 = hnew y4 (ob 18 [.int 0, va_rf none, .int 0]) → wp_J2_init G (fun y8 => ∃ fs10, y8.1 a0 = some (ob 7 fs10) ∧ 3 < fs10.length ∧ ∀ y9, y9 = hput y8 a0 (ob 7 (fs10.set 3 (va_rf (some a7)))) → ((0 + 1) + 1) + 1 ≤ B ∧ ∀ a12, a12 = y9.2 → ∀ y11, y11 = hnew y9 (ob 18 [.int 0, va_rf none, .int 0]) → wp_J2_init G (fun y13 => ∃ fs15, y13.1 a0 = some (ob 7 fs15) ∧ 4 < fs15.length ∧ ∀ y14, y14 = hput y13 a0 (ob 7 (fs15.set 4 (va_rf (some a12)))) → ∃ fs17, y14.1 a0 = some (ob 7 fs17) ∧ 0 < fs17.length ∧ ∀ y16, y16 = hput y14 a0 (ob 7 (fs17.set 0 (va_rf p1))) → post y16) y11 a12) y6 a7) y1 a2
theorem hs_X9_init : yX9_init.cls ≠ "java/lang/invoke/MethodHandle" ∧ yX9_init.cls ≠ "java/lang/invoke/VarHandle" ∧ (parseMethodDescriptor yX9_init.desc).map (fun d => d.parameters.length) = some 1 := by decide +kernel
set_option maxHeartbeats 4000000 in
theorem met_X9_init (l : Launch) (G : GP) (d : Nat) {B : Nat} {post : HS → Prop} {y0 : HS} {a0 : Nat} {p1 : Option Nat} (hw : wp_X9_init G B post y0 a0 p1) : vx_Met l yX9_init (ws_ yX9_init cX9_init 2 none) (rmB (d + 4) B) (hPc G y0 [va_rf (some a0), va_rf p1]) (hQv G y0 post) (hX G y0 (fun _ _ _ => False)) B (20 * B) (HA y0) := by
  unfold wp_X9_init at hw
  refine hv_met (own := RX9) (by decide) rfl (by simp [lg_sl, va_rf_cat, int_cat, long_cat]) ?_
  intro p e s m args below meth c ls E hr hlocks hnm hE hK hI hl
  replace hl : lv_has ls 2 [(0, va_rf (some a0)), (1, va_rf p1)] := by simpa [lv_args, va_rf_cat, int_cat, long_cat] using hl
  have hu : 0 ≤ B := Nat.zero_le _
  refine hv_aload_n (r := some a0) E.1 E.2.1 dX9_init_0 rfl (lv_at hl 0 rfl) ?_
  refine hv_objInit (r := some a0) E q803 hl.1 rfl (by first | rfl | decide | (simp [va_rf_cat, int_cat, long_cat]; done) | (simp [va_rf_cat, int_cat, long_cat]; decide)) dX9_init_1 ?_
  refine hv_aload_n (r := some a0) E.1 E.2.1 dX9_init_4 rfl (lv_at hl 0 rfl) ?_
  obtain ⟨hu, hw⟩ := hw
  refine hv_new (fs := [.int 0, va_rf none, .int 0]) E hK hI ciJ2 q804 q203 q124 (df18) (Nat.le_of_ble_eq_true rfl) hu dX9_init_5 (fun H hI => ?_)
  obtain ⟨a2, ea2⟩ : ∃ w, w = y0.2 := ⟨_, rfl⟩
  obtain ⟨y1, ey1⟩ : ∃ w, w = hnew y0 (ob 18 [.int 0, va_rf none, .int 0]) := ⟨_, rfl⟩
  rw [← ea2]
  rw [← ey1] at hI
  replace hw := hw a2 ea2 y1 ey1
  refine hv_dup E.1 E.2.1 dX9_init_8 ?_
  have hq := hw
  clear hw
  refine hv_callv (u := ((0 + 1))) (B1 := 0) hI (vx_runI (b := a2) (As := []) (rest := [va_rf (some a2), va_rf (some a0)]) E (met_J2_init l G (d) hq) (cwI 0 E.2.2.2.2 (lw_meth q206) rfl rfl rfl (E.2.2.2.2 _ q124) (E.2.2.2.2 _ q805) (E.2.2.2.2 _ q205) rfl hs_J2_init (rm_ok (by omega) (by decide))) (hv_preS hK hI) rfl rfl hl.1 rfl (lv_room (by first | rfl | decide | (simp [va_rf_cat, int_cat, long_cat]; done) | (simp [va_rf_cat, int_cat, long_cat]; decide))) dX9_init_9 (hv_fit (by first | exact hu | omega))) (fun _ _ _ _ _ h => h.elim) (fun y3 H locs hw hI => ?_)
  obtain ⟨fs5, hfs, hln, hw⟩ := hw
  refine hv_putF (v := va_rf (some a2)) E hK hI ciX9 1 (Nat.le_of_ble_eq_true rfl) q808 (fun _ h => h) rfl hnm rfl (rf_nar _ _ rfl) (rf_fit _ _ rfl) hfs hln dX9_init_12 (fun H locs hI => ?_)
  obtain ⟨y4, ey4⟩ : ∃ w, w = hput y3 a0 (ob 7 (fs5.set 1 (va_rf (some a2)))) := ⟨_, rfl⟩
  rw [← ey4] at hI
  replace hw := hw y4 ey4
  refine hv_aload_n (r := some a0) E.1 E.2.1 dX9_init_15 rfl (lv_at hl 0 rfl) ?_
  obtain ⟨hu, hw⟩ := hw
  refine hv_new (fs := [.int 0, va_rf none, .int 0]) E hK hI ciJ2 q804 q203 q124 (df18) (Nat.le_of_ble_eq_true rfl) hu dX9_init_16 (fun H hI => ?_)
  obtain ⟨a7, ea7⟩ : ∃ w, w = y4.2 := ⟨_, rfl⟩
  obtain ⟨y6, ey6⟩ : ∃ w, w = hnew y4 (ob 18 [.int 0, va_rf none, .int 0]) := ⟨_, rfl⟩
  rw [← ea7]
  rw [← ey6] at hI
  replace hw := hw a7 ea7 y6 ey6
  refine hv_dup E.1 E.2.1 dX9_init_19 ?_
  have hq := hw
  clear hw
  refine hv_callv (u := (((0 + 1) + 1))) (B1 := 0) hI (vx_runI (b := a7) (As := []) (rest := [va_rf (some a7), va_rf (some a0)]) E (met_J2_init l G (d) hq) (cwI 0 E.2.2.2.2 (lw_meth q206) rfl rfl rfl (E.2.2.2.2 _ q124) (E.2.2.2.2 _ q805) (E.2.2.2.2 _ q205) rfl hs_J2_init (rm_ok (by omega) (by decide))) (hv_preS hK hI) rfl rfl hl.1 rfl (lv_room (by first | rfl | decide | (simp [va_rf_cat, int_cat, long_cat]; done) | (simp [va_rf_cat, int_cat, long_cat]; decide))) dX9_init_20 (hv_fit (by first | exact hu | omega))) (fun _ _ _ _ _ h => h.elim) (fun y8 H locs hw hI => ?_)
  obtain ⟨fs10, hfs, hln, hw⟩ := hw
  refine hv_putF (v := va_rf (some a7)) E hK hI ciX9 3 (Nat.le_of_ble_eq_true rfl) q814 (fun _ h => h) rfl hnm rfl (rf_nar _ _ rfl) (rf_fit _ _ rfl) hfs hln dX9_init_23 (fun H locs hI => ?_)
  obtain ⟨y9, ey9⟩ : ∃ w, w = hput y8 a0 (ob 7 (fs10.set 3 (va_rf (some a7)))) := ⟨_, rfl⟩
  rw [← ey9] at hI
  replace hw := hw y9 ey9
  refine hv_aload_n (r := some a0) E.1 E.2.1 dX9_init_26 rfl (lv_at hl 0 rfl) ?_
  obtain ⟨hu, hw⟩ := hw
  refine hv_new (fs := [.int 0, va_rf none, .int 0]) E hK hI ciJ2 q804 q203 q124 (df18) (Nat.le_of_ble_eq_true rfl) hu dX9_init_27 (fun H hI => ?_)
  obtain ⟨a12, ea12⟩ : ∃ w, w = y9.2 := ⟨_, rfl⟩
  obtain ⟨y11, ey11⟩ : ∃ w, w = hnew y9 (ob 18 [.int 0, va_rf none, .int 0]) := ⟨_, rfl⟩
  rw [← ea12]
  rw [← ey11] at hI
  replace hw := hw a12 ea12 y11 ey11
  refine hv_dup E.1 E.2.1 dX9_init_30 ?_
  have hq := hw
  clear hw
  refine hv_callv (u := ((((0 + 1) + 1) + 1))) (B1 := 0) hI (vx_runI (b := a12) (As := []) (rest := [va_rf (some a12), va_rf (some a0)]) E (met_J2_init l G (d) hq) (cwI 0 E.2.2.2.2 (lw_meth q206) rfl rfl rfl (E.2.2.2.2 _ q124) (E.2.2.2.2 _ q805) (E.2.2.2.2 _ q205) rfl hs_J2_init (rm_ok (by omega) (by decide))) (hv_preS hK hI) rfl rfl hl.1 rfl (lv_room (by first | rfl | decide | (simp [va_rf_cat, int_cat, long_cat]; done) | (simp [va_rf_cat, int_cat, long_cat]; decide))) dX9_init_31 (hv_fit (by first | exact hu | omega))) (fun _ _ _ _ _ h => h.elim) (fun y13 H locs hw hI => ?_)
  obtain ⟨fs15, hfs, hln, hw⟩ := hw
  refine hv_putF (v := va_rf (some a12)) E hK hI ciX9 4 (Nat.le_of_ble_eq_true rfl) q817 (fun _ h => h) rfl hnm rfl (rf_nar _ _ rfl) (rf_fit _ _ rfl) hfs hln dX9_init_34 (fun H locs hI => ?_)
  obtain ⟨y14, ey14⟩ : ∃ w, w = hput y13 a0 (ob 7 (fs15.set 4 (va_rf (some a12)))) := ⟨_, rfl⟩
  rw [← ey14] at hI
  replace hw := hw y14 ey14
  refine hv_aload_n (r := some a0) E.1 E.2.1 dX9_init_37 rfl (lv_at hl 0 rfl) ?_
  refine hv_aload_n (r := p1) E.1 E.2.1 dX9_init_38 rfl (lv_at hl 1 rfl) ?_
  obtain ⟨fs17, hfs, hln, hw⟩ := hw
  refine hv_putF (v := va_rf p1) E hK hI ciX9 0 (Nat.le_of_ble_eq_true rfl) q806 (fun _ h => h) rfl hnm rfl (rf_nar _ _ rfl) (rf_fit _ _ rfl) hfs hln dX9_init_39 (fun H locs hI => ?_)
  obtain ⟨y16, ey16⟩ : ∃ w, w = hput y14 a0 (ob 7 (fs17.set 0 (va_rf p1))) := ⟨_, rfl⟩
  rw [← ey16] at hI
  replace hw := hw y16 ey16
  exact hv_vret E hr hlocks hI hu hw dX9_init_42
/-- CaseGrouper$Span.<init>(II)V -/
def wp_X10_init (G : GP) (post : HS → Prop) (y0 : HS) (a0 : Nat) (i1 : Int32) (i2 : Int32) : Prop := ∃ fs2, y0.1 a0 = some (ob 8 fs2) ∧ 0 < fs2.length ∧ ∀ y1, y1 = hput y0 a0 (ob 8 (fs2.set 0 (.int (i1)))) → ∃ fs4, y1.1 a0 = some (ob 8 fs4) ∧ 1 < fs4.length ∧ ∀ y3, y3 = hput y1 a0 (ob 8 (fs4.set 1 (.int (i2)))) → post y3
theorem hs_X10_init : yX10_init.cls ≠ "java/lang/invoke/MethodHandle" ∧ yX10_init.cls ≠ "java/lang/invoke/VarHandle" ∧ (parseMethodDescriptor yX10_init.desc).map (fun d => d.parameters.length) = some 2 := by decide +kernel
set_option maxHeartbeats 4000000 in
theorem met_X10_init (l : Launch) (G : GP) (d : Nat) {post : HS → Prop} {y0 : HS} {a0 : Nat} {i1 : Int32} {i2 : Int32} (hw : wp_X10_init G post y0 a0 i1 i2) : vx_Met l yX10_init (ws_ yX10_init cX10_init 3 none) (rmB (d + 1) 0) (hPc G y0 [va_rf (some a0), .int (i1), .int (i2)]) (hQv G y0 post) (hX G y0 (fun _ _ _ => False)) 0 (20 * 0) (HA y0) := by
  unfold wp_X10_init at hw
  refine hv_met (own := RX10) (by decide) rfl (Nat.le_of_ble_eq_true rfl) ?_
  intro p e s m args below meth c ls E hr hlocks hnm hE hK hI hl
  replace hl : lv_has ls 3 [(0, va_rf (some a0)), (1, .int (i1)), (2, .int (i2))] := hl
  refine hv_aload_n (r := some a0) E.1 E.2.1 dX10_init_0 rfl (lv_at hl 0 rfl) ?_
  refine hv_objInit (r := some a0) E q901 hl.1 rfl (by first | rfl | decide | (simp [va_rf_cat, int_cat, long_cat]; done) | (simp [va_rf_cat, int_cat, long_cat]; decide)) dX10_init_1 ?_
  refine hv_aload_n (r := some a0) E.1 E.2.1 dX10_init_4 rfl (lv_at hl 0 rfl) ?_
  refine lv_iload_n E.1 E.2.1 dX10_init_5 rfl (lv_at hl 1 rfl) ?_
  obtain ⟨fs2, hfs, hln, hw⟩ := hw
  refine hv_putF (v := .int (i1)) E hK hI ciX10 0 (Nat.le_of_ble_eq_true rfl) q902 (fun _ h => h) rfl hnm rfl rfl rfl hfs hln dX10_init_6 (fun H locs hI => ?_)
  obtain ⟨y1, ey1⟩ : ∃ w, w = hput y0 a0 (ob 8 (fs2.set 0 (.int (i1)))) := ⟨_, rfl⟩
  rw [← ey1] at hI
  replace hw := hw y1 ey1
  refine hv_aload_n (r := some a0) E.1 E.2.1 dX10_init_9 rfl (lv_at hl 0 rfl) ?_
  refine lv_iload_n E.1 E.2.1 dX10_init_10 rfl (lv_at hl 2 rfl) ?_
  obtain ⟨fs4, hfs, hln, hw⟩ := hw
  refine hv_putF (v := .int (i2)) E hK hI ciX10 1 (Nat.le_of_ble_eq_true rfl) q903 (fun _ h => h) rfl hnm rfl rfl rfl hfs hln dX10_init_11 (fun H locs hI => ?_)
  obtain ⟨y3, ey3⟩ : ∃ w, w = hput y1 a0 (ob 8 (fs4.set 1 (.int (i2)))) := ⟨_, rfl⟩
  rw [← ey3] at hI
  replace hw := hw y3 ey3
  exact hv_vret E hr hlocks hI (Nat.le_refl 0) hw dX10_init_14
/-- CaseGrouper$Span.isLike(LCaseGrouper$Span;)Z -/
def wp_X10_isLike (G : GP) (post : Bool → HS → Prop) (y0 : HS) (a0 : Nat) (p1 : Option Nat) : Prop := ∃ f1, fI y0 a0 8 0 f1 ∧ ∃ a2, p1 = some a2 ∧ ∃ f3, fI y0 a2 8 0 f3 ∧ (¬ f1 = f3 → post false y0) ∧ (f1 = f3 → ∃ f5, fI y0 a0 8 1 f5 ∧ ∃ f6, fI y0 a2 8 1 f6 ∧ (¬ f5 = f6 → post false y0) ∧ (f5 = f6 → post true y0))
theorem hs_X10_isLike : yX10_isLike.cls ≠ "java/lang/invoke/MethodHandle" ∧ yX10_isLike.cls ≠ "java/lang/invoke/VarHandle" ∧ (parseMethodDescriptor yX10_isLike.desc).map (fun d => d.parameters.length) = some 1 := by decide +kernel
theorem hd_X10_isLike : yX10_isLike.cls = RX10 ∧ yX10_isLike.cls ≠ "java/lang/invoke/MethodHandle" ∧ yX10_isLike.cls ≠ "java/lang/invoke/VarHandle" ∧ (parseMethodDescriptor yX10_isLike.desc).map (fun d => d.parameters.length) = some 1 := by decide +kernel
set_option maxHeartbeats 4000000 in
theorem met_X10_isLike (l : Launch) (G : GP) (d : Nat) {post : Bool → HS → Prop} {y0 : HS} {a0 : Nat} {p1 : Option Nat} (hw : wp_X10_isLike G post y0 a0 p1) : vx_Met l yX10_isLike (ws_ yX10_isLike cX10_isLike 2 (some .boolean)) (rmB (d + 0) 0) (hPc G y0 [va_rf (some a0), va_rf p1]) (hQz G y0 post) (hX G y0 (fun _ _ _ => False)) 0 (20 * 0) (HA y0) := by
  unfold wp_X10_isLike at hw
  refine hv_met (own := RX10) (by decide) rfl (by simp [lg_sl, va_rf_cat, int_cat, long_cat]) ?_
  intro p e s m args below meth c ls E hr hlocks hnm hE hK hI hl
  replace hl : lv_has ls 2 [(0, va_rf (some a0)), (1, va_rf p1)] := by simpa [lv_args, va_rf_cat, int_cat, long_cat] using hl
  refine hv_aload_n (r := some a0) E.1 E.2.1 dX10_isLike_0 rfl (lv_at hl 0 rfl) ?_
  obtain ⟨f1, ⟨fs, hfs, hfk⟩, hw⟩ := hw
  refine hv_get (v := .int f1) E hK hI ciX10 0 (Nat.le_of_ble_eq_true rfl) q902 (fun _ h => h) (Or.inl hfs) hfk dX10_isLike_1 ?_
  refine hv_aload_n (r := p1) E.1 E.2.1 dX10_isLike_4 rfl (lv_at hl 1 rfl) ?_
  obtain ⟨a2, ea2, hw⟩ := hw
  revert hl hw; subst ea2; intro hl hw
  obtain ⟨f3, ⟨fs, hfs, hfk⟩, hw⟩ := hw
  refine hv_get (v := .int f3) E hK hI ciX10 0 (Nat.le_of_ble_eq_true rfl) q902 (fun _ h => h) (Or.inl hfs) hfk dX10_isLike_5 ?_
  refine lv_icmp_ne (tgt := 26) E.1 E.2.1 dX10_isLike_8 (by decide) (fun c4 => ?_) (fun c4 => ?_)
  · replace hw := hw.1 (c4)
    refine lv_iconst (v := nI 0) E.1 E.2.1 dX10_isLike_26 rfl ?_
    exact hv_iretz (b := false) E hr hlocks hI (Nat.le_refl 0) rfl hw dX10_isLike_27
  · replace hw := hw.2 (c4)
    refine hv_aload_n (r := some a0) E.1 E.2.1 dX10_isLike_11 rfl (lv_at hl 0 rfl) ?_
    obtain ⟨f5, ⟨fs, hfs, hfk⟩, hw⟩ := hw
    refine hv_get (v := .int f5) E hK hI ciX10 1 (Nat.le_of_ble_eq_true rfl) q903 (fun _ h => h) (Or.inl hfs) hfk dX10_isLike_12 ?_
    refine hv_aload_n (r := some a2) E.1 E.2.1 dX10_isLike_15 rfl (lv_at hl 1 rfl) ?_
    obtain ⟨f6, ⟨fs, hfs, hfk⟩, hw⟩ := hw
    refine hv_get (v := .int f6) E hK hI ciX10 1 (Nat.le_of_ble_eq_true rfl) q903 (fun _ h => h) (Or.inl hfs) hfk dX10_isLike_16 ?_
    refine lv_icmp_ne (tgt := 26) E.1 E.2.1 dX10_isLike_19 (by decide) (fun c7 => ?_) (fun c7 => ?_)
    · replace hw := hw.1 (c7)
      refine lv_iconst (v := nI 0) E.1 E.2.1 dX10_isLike_26 rfl ?_
      exact hv_iretz (b := false) E hr hlocks hI (Nat.le_refl 0) rfl hw dX10_isLike_27
    · replace hw := hw.2 (c7)
      refine lv_iconst (v := nI 1) E.1 E.2.1 dX10_isLike_22 rfl ?_
      refine lv_goto (tgt := 27) E.1 E.2.1 dX10_isLike_23 (by decide) ?_
      exact hv_iretz (b := true) E hr hlocks hI (Nat.le_refl 0) rfl hw dX10_isLike_27
/-- CaseGrouper.within(III)Z -/
def wp_X1_within (G : GP) (post : Bool → HS → Prop) (y0 : HS) (i0 : Int32) (i1 : Int32) (i2 : Int32) : Prop := (i0 < i1 → post false y0) ∧ (¬ i0 < i1 → (i2 < i0 → post false y0) ∧ (¬ i2 < i0 → post true y0))
theorem hs_X1_within : yX1_within.cls ≠ "java/lang/invoke/MethodHandle" ∧ yX1_within.cls ≠ "java/lang/invoke/VarHandle" ∧ (parseMethodDescriptor yX1_within.desc).map (fun d => d.parameters.length) = some 3 := by decide +kernel
set_option maxHeartbeats 4000000 in
theorem met_X1_within (l : Launch) (G : GP) (d : Nat) {post : Bool → HS → Prop} {y0 : HS} {i0 : Int32} {i1 : Int32} {i2 : Int32} (hw : wp_X1_within G post y0 i0 i1 i2) : vx_Met l yX1_within (ws_ yX1_within cX1_within 3 (some .boolean)) (rmB (d + 0) 0) (hPc G y0 [.int (i0), .int (i1), .int (i2)]) (hQz G y0 post) (hX G y0 (fun _ _ _ => False)) 0 (20 * 0) (HA y0) := by
  unfold wp_X1_within at hw
  refine hv_met (own := RX1) (by decide) rfl (Nat.le_of_ble_eq_true rfl) ?_
  intro p e s m args below meth c ls E hr hlocks hnm hE hK hI hl
  replace hl : lv_has ls 3 [(0, .int (i0)), (1, .int (i1)), (2, .int (i2))] := hl
  refine lv_iload_n E.1 E.2.1 dX1_within_0 rfl (lv_at hl 0 rfl) ?_
  refine lv_iload_n E.1 E.2.1 dX1_within_1 rfl (lv_at hl 1 rfl) ?_
  refine lv_icmp_lt (tgt := 14) E.1 E.2.1 dX1_within_2 (by decide) (fun c1 => ?_) (fun c1 => ?_)
  · replace hw := hw.1 (c1)
    refine lv_iconst (v := nI 0) E.1 E.2.1 dX1_within_14 rfl ?_
    exact hv_iretz (b := false) E hr hlocks hI (Nat.le_refl 0) rfl hw dX1_within_15
  · replace hw := hw.2 (c1)
    refine lv_iload_n E.1 E.2.1 dX1_within_5 rfl (lv_at hl 0 rfl) ?_
    refine lv_iload_n E.1 E.2.1 dX1_within_6 rfl (lv_at hl 2 rfl) ?_
    refine lv_icmp_gt (tgt := 14) E.1 E.2.1 dX1_within_7 (by decide) (fun c2 => ?_) (fun c2 => ?_)
    · replace hw := hw.1 (c2)
      refine lv_iconst (v := nI 0) E.1 E.2.1 dX1_within_14 rfl ?_
      exact hv_iretz (b := false) E hr hlocks hI (Nat.le_refl 0) rfl hw dX1_within_15
    · replace hw := hw.2 (c2)
      refine lv_iconst (v := nI 1) E.1 E.2.1 dX1_within_10 rfl ?_
      refine lv_goto (tgt := 15) E.1 E.2.1 dX1_within_11 (by decide) ?_
      exact hv_iretz (b := true) E hr hlocks hI (Nat.le_refl 0) rfl hw dX1_within_15
/-- CaseGrouper$Span.has(I)Z -/
def wp_X10_has (G : GP) (post : Bool → HS → Prop) (y0 : HS) (a0 : Nat) (i1 : Int32) : Prop := ∃ f1, fI y0 a0 8 0 f1 ∧ ∃ f2, fI y0 a0 8 1 f2 ∧ wp_X1_within G (fun b4 y3 => post b4 y3) y0 i1 f1 f2
theorem hs_X10_has : yX10_has.cls ≠ "java/lang/invoke/MethodHandle" ∧ yX10_has.cls ≠ "java/lang/invoke/VarHandle" ∧ (parseMethodDescriptor yX10_has.desc).map (fun d => d.parameters.length) = some 1 := by decide +kernel
theorem hd_X10_has : yX10_has.cls = RX10 ∧ yX10_has.cls ≠ "java/lang/invoke/MethodHandle" ∧ yX10_has.cls ≠ "java/lang/invoke/VarHandle" ∧ (parseMethodDescriptor yX10_has.desc).map (fun d => d.parameters.length) = some 1 := by decide +kernel
set_option maxHeartbeats 4000000 in
theorem met_X10_has (l : Launch) (G : GP) (d : Nat) {post : Bool → HS → Prop} {y0 : HS} {a0 : Nat} {i1 : Int32} (hw : wp_X10_has G post y0 a0 i1) : vx_Met l yX10_has (ws_ yX10_has cX10_has 2 (some .boolean)) (rmB (d + 1) 0) (hPc G y0 [va_rf (some a0), .int (i1)]) (hQz G y0 post) (hX G y0 (fun _ _ _ => False)) 0 (20 * 0) (HA y0) := by
  unfold wp_X10_has at hw
  refine hv_met (own := RX10) (by decide) rfl (Nat.le_of_ble_eq_true rfl) ?_
  intro p e s m args below meth c ls E hr hlocks hnm hE hK hI hl
  replace hl : lv_has ls 2 [(0, va_rf (some a0)), (1, .int (i1))] := hl
  refine lv_iload_n E.1 E.2.1 dX10_has_0 rfl (lv_at hl 1 rfl) ?_
  refine hv_aload_n (r := some a0) E.1 E.2.1 dX10_has_1 rfl (lv_at hl 0 rfl) ?_
  obtain ⟨f1, ⟨fs, hfs, hfk⟩, hw⟩ := hw
  refine hv_get (v := .int f1) E hK hI ciX10 0 (Nat.le_of_ble_eq_true rfl) q902 (fun _ h => h) (Or.inl hfs) hfk dX10_has_2 ?_
  refine hv_aload_n (r := some a0) E.1 E.2.1 dX10_has_5 rfl (lv_at hl 0 rfl) ?_
  obtain ⟨f2, ⟨fs, hfs, hfk⟩, hw⟩ := hw
  refine hv_get (v := .int f2) E hK hI ciX10 1 (Nat.le_of_ble_eq_true rfl) q903 (fun _ h => h) (Or.inl hfs) hfk dX10_has_6 ?_
  have hq := hw
  clear hw
  refine hv_callz (u := 0) (B1 := 0) hI (vx_runSN (As := [.int (i1), .int (f1), .int (f2)]) (rest := []) E (met_X1_within l G (d) hq) ⟨va_cnB 3 E.2.2.2.2 (lw_meth q182) rfl rfl rfl (hK.2.2.2.2.1 _ q1322 rfl) (E.2.2.2.2 _ q121) hs_X1_within (rm_ok (by omega) (by decide)), E.2.2.2.2 _ q181, trivial⟩ (hv_preS hK hI) rfl rfl hl.1 rfl (lv_room (by first | rfl | decide | (simp [va_rf_cat, int_cat, long_cat]; done) | (simp [va_rf_cat, int_cat, long_cat]; decide))) dX10_has_9 (hv_fit (by first | exact (Nat.le_refl 0) | omega))) (fun _ _ _ _ _ h => h.elim) (fun b4 y3 H locs hw hI => ?_)
  exact hv_iretz (b := b4) E hr hlocks hI (Nat.le_refl 0) rfl hw dX10_has_12
/-- CaseGrouper$Rank.<init>(LCaseGrouper$Span;I)V -/
def wp_X11_init (G : GP) (post : HS → Prop) (y0 : HS) (a0 : Nat) (p1 : Option Nat) (i2 : Int32) : Prop := ∃ fs2, y0.1 a0 = some (ob 9 fs2) ∧ 0 < fs2.length ∧ ∀ y1, y1 = hput y0 a0 (ob 9 (fs2.set 0 (va_rf p1))) → ∃ fs4, y1.1 a0 = some (ob 9 fs4) ∧ 1 < fs4.length ∧ ∀ y3, y3 = hput y1 a0 (ob 9 (fs4.set 1 (.int (i2)))) → post y3
theorem hs_X11_init : yX11_init.cls ≠ "java/lang/invoke/MethodHandle" ∧ yX11_init.cls ≠ "java/lang/invoke/VarHandle" ∧ (parseMethodDescriptor yX11_init.desc).map (fun d => d.parameters.length) = some 2 := by decide +kernel
set_option maxHeartbeats 4000000 in
theorem met_X11_init (l : Launch) (G : GP) (d : Nat) {post : HS → Prop} {y0 : HS} {a0 : Nat} {p1 : Option Nat} {i2 : Int32} (hw : wp_X11_init G post y0 a0 p1 i2) : vx_Met l yX11_init (ws_ yX11_init cX11_init 3 none) (rmB (d + 1) 0) (hPc G y0 [va_rf (some a0), va_rf p1, .int (i2)]) (hQv G y0 post) (hX G y0 (fun _ _ _ => False)) 0 (20 * 0) (HA y0) := by
  unfold wp_X11_init at hw
  refine hv_met (own := RX11) (by decide) rfl (by simp [lg_sl, va_rf_cat, int_cat, long_cat]) ?_
  intro p e s m args below meth c ls E hr hlocks hnm hE hK hI hl
  replace hl : lv_has ls 3 [(0, va_rf (some a0)), (1, va_rf p1), (2, .int (i2))] := by simpa [lv_args, va_rf_cat, int_cat, long_cat] using hl
  refine hv_aload_n (r := some a0) E.1 E.2.1 dX11_init_0 rfl (lv_at hl 0 rfl) ?_
  refine hv_objInit (r := some a0) E q999 hl.1 rfl (by first | rfl | decide | (simp [va_rf_cat, int_cat, long_cat]; done) | (simp [va_rf_cat, int_cat, long_cat]; decide)) dX11_init_1 ?_
  refine hv_aload_n (r := some a0) E.1 E.2.1 dX11_init_4 rfl (lv_at hl 0 rfl) ?_
  refine hv_aload_n (r := p1) E.1 E.2.1 dX11_init_5 rfl (lv_at hl 1 rfl) ?_
  obtain ⟨fs2, hfs, hln, hw⟩ := hw
  refine hv_putF (v := va_rf p1) E hK hI ciX11 0 (Nat.le_of_ble_eq_true rfl) q1000 (fun _ h => h) rfl hnm rfl (rf_nar _ _ rfl) (rf_fit _ _ rfl) hfs hln dX11_init_6 (fun H locs hI => ?_)
  obtain ⟨y1, ey1⟩ : ∃ w, w = hput y0 a0 (ob 9 (fs2.set 0 (va_rf p1))) := ⟨_, rfl⟩
  rw [← ey1] at hI
  replace hw := hw y1 ey1
  refine hv_aload_n (r := some a0) E.1 E.2.1 dX11_init_9 rfl (lv_at hl 0 rfl) ?_
  refine lv_iload_n E.1 E.2.1 dX11_init_10 rfl (lv_at hl 2 rfl) ?_
  obtain ⟨fs4, hfs, hln, hw⟩ := hw
  refine hv_putF (v := .int (i2)) E hK hI ciX11 1 (Nat.le_of_ble_eq_true rfl) q1002 (fun _ h => h) rfl hnm rfl rfl rfl hfs hln dX11_init_11 (fun H locs hI => ?_)
  obtain ⟨y3, ey3⟩ : ∃ w, w = hput y1 a0 (ob 9 (fs4.set 1 (.int (i2)))) := ⟨_, rfl⟩
  rw [← ey3] at hI
  replace hw := hw y3 ey3
  exact hv_vret E hr hlocks hI (Nat.le_refl 0) hw dX11_init_14
/-- CaseGrouper$Partner.<init>(LCaseGrouper$Span;I)V -/
def wp_X12_init (G : GP) (B : Nat) (post : HS → Prop) (y0 : HS) (a0 : Nat) (p1 : Option Nat) (i2 : Int32) : Prop := 0 + 1 ≤ B ∧ ∀ a2, a2 = y0.2 → ∀ y1, y1 = hnew y0 (ob 18 [.int 0, va_rf none, .int 0]) → wp_J2_init G (fun y3 => ∃ fs5, y3.1 a0 = some (ob 10 fs5) ∧ 2 < fs5.length ∧ ∀ y4, y4 = hput y3 a0 (ob 10 (fs5.set 2 (va_rf (some a2)))) → ∃ fs7, y4.1 a0 = some (ob 10 fs7) ∧ 0 < fs7.length ∧ ∀ y6, y6 = hput y4 a0 (ob 10 (fs7.set 0 (va_rf p1))) → ∃ fs9, y6.1 a0 = some (ob 10 fs9) ∧ 1 < fs9.length ∧ ∀ y8, y8 = hput y6 a0 (ob 10 (fs9.set 1 (.int (i2)))) → post y8) y1 a2
theorem hs_X12_init : yX12_init.cls ≠ "java/lang/invoke/MethodHandle" ∧ yX12_init.cls ≠ "java/lang/invoke/VarHandle" ∧ (parseMethodDescriptor yX12_init.desc).map (fun d => d.parameters.length) = some 2 := by decide +kernel
set_option maxHeartbeats 4000000 in
theorem met_X12_init (l : Launch) (G : GP) (d : Nat) {B : Nat} {post : HS → Prop} {y0 : HS} {a0 : Nat} {p1 : Option Nat} {i2 : Int32} (hw : wp_X12_init G B post y0 a0 p1 i2) : vx_Met l yX12_init (ws_ yX12_init cX12_init 3 none) (rmB (d + 4) B) (hPc G y0 [va_rf (some a0), va_rf p1, .int (i2)]) (hQv G y0 post) (hX G y0 (fun _ _ _ => False)) B (20 * B) (HA y0) := by
  unfold wp_X12_init at hw
  refine hv_met (own := RX12) (by decide) rfl (by simp [lg_sl, va_rf_cat, int_cat, long_cat]) ?_
  intro p e s m args below meth c ls E hr hlocks hnm hE hK hI hl
  replace hl : lv_has ls 3 [(0, va_rf (some a0)), (1, va_rf p1), (2, .int (i2))] := by simpa [lv_args, va_rf_cat, int_cat, long_cat] using hl
  have hu : 0 ≤ B := Nat.zero_le _
  refine hv_aload_n (r := some a0) E.1 E.2.1 dX12_init_0 rfl (lv_at hl 0 rfl) ?_
  refine hv_objInit (r := some a0) E q1018 hl.1 rfl (by first | rfl | decide | (simp [va_rf_cat, int_cat, long_cat]; done) | (simp [va_rf_cat, int_cat, long_cat]; decide)) dX12_init_1 ?_
  refine hv_aload_n (r := some a0) E.1 E.2.1 dX12_init_4 rfl (lv_at hl 0 rfl) ?_
  obtain ⟨hu, hw⟩ := hw
  refine hv_new (fs := [.int 0, va_rf none, .int 0]) E hK hI ciJ2 q1019 q203 q124 (df18) (Nat.le_of_ble_eq_true rfl) hu dX12_init_5 (fun H hI => ?_)
  obtain ⟨a2, ea2⟩ : ∃ w, w = y0.2 := ⟨_, rfl⟩
  obtain ⟨y1, ey1⟩ : ∃ w, w = hnew y0 (ob 18 [.int 0, va_rf none, .int 0]) := ⟨_, rfl⟩
  rw [← ea2]
  rw [← ey1] at hI
  replace hw := hw a2 ea2 y1 ey1
  refine hv_dup E.1 E.2.1 dX12_init_8 ?_
  have hq := hw
  clear hw
  refine hv_callv (u := ((0 + 1))) (B1 := 0) hI (vx_runI (b := a2) (As := []) (rest := [va_rf (some a2), va_rf (some a0)]) E (met_J2_init l G (d) hq) (cwI 0 E.2.2.2.2 (lw_meth q206) rfl rfl rfl (E.2.2.2.2 _ q124) (E.2.2.2.2 _ q1020) (E.2.2.2.2 _ q205) rfl hs_J2_init (rm_ok (by omega) (by decide))) (hv_preS hK hI) rfl rfl hl.1 rfl (lv_room (by first | rfl | decide | (simp [va_rf_cat, int_cat, long_cat]; done) | (simp [va_rf_cat, int_cat, long_cat]; decide))) dX12_init_9 (hv_fit (by first | exact hu | omega))) (fun _ _ _ _ _ h => h.elim) (fun y3 H locs hw hI => ?_)
  obtain ⟨fs5, hfs, hln, hw⟩ := hw
  refine hv_putF (v := va_rf (some a2)) E hK hI ciX12 2 (Nat.le_of_ble_eq_true rfl) q1025 (fun _ h => h) rfl hnm rfl (rf_nar _ _ rfl) (rf_fit _ _ rfl) hfs hln dX12_init_12 (fun H locs hI => ?_)
  obtain ⟨y4, ey4⟩ : ∃ w, w = hput y3 a0 (ob 10 (fs5.set 2 (va_rf (some a2)))) := ⟨_, rfl⟩
  rw [← ey4] at hI
  replace hw := hw y4 ey4
  refine hv_aload_n (r := some a0) E.1 E.2.1 dX12_init_15 rfl (lv_at hl 0 rfl) ?_
  refine hv_aload_n (r := p1) E.1 E.2.1 dX12_init_16 rfl (lv_at hl 1 rfl) ?_
  obtain ⟨fs7, hfs, hln, hw⟩ := hw
  refine hv_putF (v := va_rf p1) E hK hI ciX12 0 (Nat.le_of_ble_eq_true rfl) q1021 (fun _ h => h) rfl hnm rfl (rf_nar _ _ rfl) (rf_fit _ _ rfl) hfs hln dX12_init_17 (fun H locs hI => ?_)
  obtain ⟨y6, ey6⟩ : ∃ w, w = hput y4 a0 (ob 10 (fs7.set 0 (va_rf p1))) := ⟨_, rfl⟩
  rw [← ey6] at hI
  replace hw := hw y6 ey6
  refine hv_aload_n (r := some a0) E.1 E.2.1 dX12_init_20 rfl (lv_at hl 0 rfl) ?_
  refine lv_iload_n E.1 E.2.1 dX12_init_21 rfl (lv_at hl 2 rfl) ?_
  obtain ⟨fs9, hfs, hln, hw⟩ := hw
  refine hv_putF (v := .int (i2)) E hK hI ciX12 1 (Nat.le_of_ble_eq_true rfl) q1023 (fun _ h => h) rfl hnm rfl rfl rfl hfs hln dX12_init_22 (fun H locs hI => ?_)
  obtain ⟨y8, ey8⟩ : ∃ w, w = hput y6 a0 (ob 10 (fs9.set 1 (.int (i2)))) := ⟨_, rfl⟩
  rw [← ey8] at hI
  replace hw := hw y8 ey8
  exact hv_vret E hr hlocks hI hu hw dX12_init_25
/-- CaseGrouper$Leaf.<init>(I)V -/
def wp_X13_init (G : GP) (post : HS → Prop) (y0 : HS) (a0 : Nat) (i1 : Int32) : Prop := ∃ fs2, y0.1 a0 = some (ob 11 fs2) ∧ 0 < fs2.length ∧ ∀ y1, y1 = hput y0 a0 (ob 11 (fs2.set 0 (.int (i1)))) → post y1
theorem hs_X13_init : yX13_init.cls ≠ "java/lang/invoke/MethodHandle" ∧ yX13_init.cls ≠ "java/lang/invoke/VarHandle" ∧ (parseMethodDescriptor yX13_init.desc).map (fun d => d.parameters.length) = some 1 := by decide +kernel
set_option maxHeartbeats 4000000 in
theorem met_X13_init (l : Launch) (G : GP) (d : Nat) {post : HS → Prop} {y0 : HS} {a0 : Nat} {i1 : Int32} (hw : wp_X13_init G post y0 a0 i1) : vx_Met l yX13_init (ws_ yX13_init cX13_init 2 none) (rmB (d + 1) 0) (hPc G y0 [va_rf (some a0), .int (i1)]) (hQv G y0 post) (hX G y0 (fun _ _ _ => False)) 0 (20 * 0) (HA y0) := by
  unfold wp_X13_init at hw
  refine hv_met (own := RX13) (by decide) rfl (Nat.le_of_ble_eq_true rfl) ?_
  intro p e s m args below meth c ls E hr hlocks hnm hE hK hI hl
  replace hl : lv_has ls 2 [(0, va_rf (some a0)), (1, .int (i1))] := hl
  refine hv_aload_n (r := some a0) E.1 E.2.1 dX13_init_0 rfl (lv_at hl 0 rfl) ?_
  refine hv_objInit (r := some a0) E q1088 hl.1 rfl (by first | rfl | decide | (simp [va_rf_cat, int_cat, long_cat]; done) | (simp [va_rf_cat, int_cat, long_cat]; decide)) dX13_init_1 ?_
  refine hv_aload_n (r := some a0) E.1 E.2.1 dX13_init_4 rfl (lv_at hl 0 rfl) ?_
  refine lv_iload_n E.1 E.2.1 dX13_init_5 rfl (lv_at hl 1 rfl) ?_
  obtain ⟨fs2, hfs, hln, hw⟩ := hw
  refine hv_putF (v := .int (i1)) E hK hI ciX13 0 (Nat.le_of_ble_eq_true rfl) q1089 (fun _ h => h) rfl hnm rfl rfl rfl hfs hln dX13_init_6 (fun H locs hI => ?_)
  obtain ⟨y1, ey1⟩ : ∃ w, w = hput y0 a0 (ob 11 (fs2.set 0 (.int (i1)))) := ⟨_, rfl⟩
  rw [← ey1] at hI
  replace hw := hw y1 ey1
  exact hv_vret E hr hlocks hI (Nat.le_refl 0) hw dX13_init_9
/-- CaseGrouper$Joined.<init>(Ljava/lang/String;Ljava/lang/Object;)V -/
def wp_X14_init (G : GP) (B : Nat) (post : HS → Prop) (y0 : HS) (a0 : Nat) (p1 : Option Nat) (p2 : Option Nat) : Prop := 0 + 1 ≤ B ∧ ∀ a2, a2 = y0.2 → ∀ y1, y1 = hnew y0 (ob 18 [.int 0, va_rf none, .int 0]) → wp_J2_init G (fun y3 => ∃ fs5, y3.1 a0 = some (ob 12 fs5) ∧ 1 < fs5.length ∧ ∀ y4, y4 = hput y3 a0 (ob 12 (fs5.set 1 (va_rf (some a2)))) → ∃ fs7, y4.1 a0 = some (ob 12 fs7) ∧ 0 < fs7.length ∧ ∀ y6, y6 = hput y4 a0 (ob 12 (fs7.set 0 (va_rf p1))) → ∃ f8, fR y6 a0 12 1 f8 ∧ ∃ a9, f8 = some a9 ∧ (∃ fs12, rd G y6 a9 (ob 18 fs12)) ∧ ∃ k13, (0 + 1) + k13 ≤ B ∧ wp_J2_add G k13 (fun b11 y10 => post y10) y6 a9 p2) y1 a2
theorem hs_X14_init : yX14_init.cls ≠ "java/lang/invoke/MethodHandle" ∧ yX14_init.cls ≠ "java/lang/invoke/VarHandle" ∧ (parseMethodDescriptor yX14_init.desc).map (fun d => d.parameters.length) = some 2 := by decide +kernel
set_option maxHeartbeats 4000000 in
theorem met_X14_init (l : Launch) (G : GP) (d : Nat) {B : Nat} {post : HS → Prop} {y0 : HS} {a0 : Nat} {p1 : Option Nat} {p2 : Option Nat} (hw : wp_X14_init G B post y0 a0 p1 p2) : vx_Met l yX14_init (ws_ yX14_init cX14_init 3 none) (rmB (d + 7) B) (hPc G y0 [va_rf (some a0), va_rf p1, va_rf p2]) (hQv G y0 post) (hX G y0 (fun _ _ _ => False)) B (20 * B) (HA y0) := by
  unfold wp_X14_init at hw
  refine hv_met (own := RX14) (by decide) rfl (by simp [lg_sl, va_rf_cat, int_cat, long_cat]) ?_
  intro p e s m args below meth c ls E hr hlocks hnm hE hK hI hl
  replace hl : lv_has ls 3 [(0, va_rf (some a0)), (1, va_rf p1), (2, va_rf p2)] := by simpa [lv_args, va_rf_cat, int_cat, long_cat] using hl
  have hu : 0 ≤ B := Nat.zero_le _
  refine hv_aload_n (r := some a0) E.1 E.2.1 dX14_init_0 rfl (lv_at hl 0 rfl) ?_
  refine hv_objInit (r := some a0) E q1121 hl.1 rfl (by first | rfl | decide | (simp [va_rf_cat, int_cat, long_cat]; done) | (simp [va_rf_cat, int_cat, long_cat]; decide)) dX14_init_1 ?_
  refine hv_aload_n (r := some a0) E.1 E.2.1 dX14_init_4 rfl (lv_at hl 0 rfl) ?_
  obtain ⟨hu, hw⟩ := hw
  refine hv_new (fs := [.int 0, va_rf none, .int 0]) E hK hI ciJ2 q1122 q203 q124 (df18) (Nat.le_of_ble_eq_true rfl) hu dX14_init_5 (fun H hI => ?_)
  obtain ⟨a2, ea2⟩ : ∃ w, w = y0.2 := ⟨_, rfl⟩
  obtain ⟨y1, ey1⟩ : ∃ w, w = hnew y0 (ob 18 [.int 0, va_rf none, .int 0]) := ⟨_, rfl⟩
  rw [← ea2]
  rw [← ey1] at hI
  replace hw := hw a2 ea2 y1 ey1
  refine hv_dup E.1 E.2.1 dX14_init_8 ?_
  have hq := hw
  clear hw
  refine hv_callv (u := ((0 + 1))) (B1 := 0) hI (vx_runI (b := a2) (As := []) (rest := [va_rf (some a2), va_rf (some a0)]) E (met_J2_init l G (d + 3) hq) (cwI 0 E.2.2.2.2 (lw_meth q206) rfl rfl rfl (E.2.2.2.2 _ q124) (E.2.2.2.2 _ q1123) (E.2.2.2.2 _ q205) rfl hs_J2_init (rm_ok (by omega) (by decide))) (hv_preS hK hI) rfl rfl hl.1 rfl (lv_room (by first | rfl | decide | (simp [va_rf_cat, int_cat, long_cat]; done) | (simp [va_rf_cat, int_cat, long_cat]; decide))) dX14_init_9 (hv_fit (by first | exact hu | omega))) (fun _ _ _ _ _ h => h.elim) (fun y3 H locs hw hI => ?_)
  obtain ⟨fs5, hfs, hln, hw⟩ := hw
  refine hv_putF (v := va_rf (some a2)) E hK hI ciX14 1 (Nat.le_of_ble_eq_true rfl) q1127 (fun _ h => h) rfl hnm rfl (rf_nar _ _ rfl) (rf_fit _ _ rfl) hfs hln dX14_init_12 (fun H locs hI => ?_)
  obtain ⟨y4, ey4⟩ : ∃ w, w = hput y3 a0 (ob 12 (fs5.set 1 (va_rf (some a2)))) := ⟨_, rfl⟩
  rw [← ey4] at hI
  replace hw := hw y4 ey4
  refine hv_aload_n (r := some a0) E.1 E.2.1 dX14_init_15 rfl (lv_at hl 0 rfl) ?_
  refine hv_aload_n (r := p1) E.1 E.2.1 dX14_init_16 rfl (lv_at hl 1 rfl) ?_
  obtain ⟨fs7, hfs, hln, hw⟩ := hw
  refine hv_putF (v := va_rf p1) E hK hI ciX14 0 (Nat.le_of_ble_eq_true rfl) q1125 (fun _ h => h) rfl hnm rfl (rf_nar _ _ rfl) (rf_fit _ _ rfl) hfs hln dX14_init_17 (fun H locs hI => ?_)
  obtain ⟨y6, ey6⟩ : ∃ w, w = hput y4 a0 (ob 12 (fs7.set 0 (va_rf p1))) := ⟨_, rfl⟩
  rw [← ey6] at hI
  replace hw := hw y6 ey6
  refine hv_aload_n (r := some a0) E.1 E.2.1 dX14_init_20 rfl (lv_at hl 0 rfl) ?_
  obtain ⟨f8, ⟨fs, hfs, hfk⟩, hw⟩ := hw
  refine hv_get (v := va_rf f8) E hK hI ciX14 1 (Nat.le_of_ble_eq_true rfl) q1127 (fun _ h => h) (Or.inl hfs) hfk dX14_init_21 ?_
  refine hv_aload_n (r := p2) E.1 E.2.1 dX14_init_24 rfl (lv_at hl 2 rfl) ?_
  obtain ⟨a9, ea9, hw⟩ := hw
  revert hl hw; subst ea9; intro hl hw
  obtain ⟨⟨fs12, hrv⟩, hw⟩ := hw
  obtain ⟨k13, hB, hw⟩ := hw
  have hq := hw
  clear hw
  refine hv_callz (u := ((0 + 1))) (B1 := k13) hI (vx_runV (As := [va_rf p2]) (rest := []) E (met_J2_add l G (d) hq) (cwV 1 E.2.2.2.2 (lw_V q1124 q910 q911 q124 q912) rfl rfl rfl hd_J2_add (rm_ok (by omega) (by decide))) (hv_preV hK hI hrv rfl) rfl rfl hl.1 rfl (lv_room (by first | rfl | decide | (simp [va_rf_cat, int_cat, long_cat]; done) | (simp [va_rf_cat, int_cat, long_cat]; decide))) dX14_init_25 (hv_fit (by first | exact hB | omega))) (fun _ _ _ _ _ h => h.elim) (fun b11 y10 H locs hw hI => ?_)
  have hu := hB
  refine lv_pop E.1 E.2.1 dX14_init_28 rfl ?_
  exact hv_vret E hr hlocks hI hu hw dX14_init_29
/-- CaseGrouper$Atom.isOfCodes()Z -/
def wp_X15_isOfCodes (G : GP) (post : Bool → HS → Prop) (y0 : HS) (a0 : Nat) : Prop := ∃ f1, fR y0 a0 13 1 f1 ∧ (f1 = none → post false y0) ∧ (∀ a3, f1 = some a3 → post true y0)
theorem hs_X15_isOfCodes : yX15_isOfCodes.cls ≠ "java/lang/invoke/MethodHandle" ∧ yX15_isOfCodes.cls ≠ "java/lang/invoke/VarHandle" ∧ (parseMethodDescriptor yX15_isOfCodes.desc).map (fun d => d.parameters.length) = some 0 := by decide +kernel
theorem hd_X15_isOfCodes : yX15_isOfCodes.cls = RX15 ∧ yX15_isOfCodes.cls ≠ "java/lang/invoke/MethodHandle" ∧ yX15_isOfCodes.cls ≠ "java/lang/invoke/VarHandle" ∧ (parseMethodDescriptor yX15_isOfCodes.desc).map (fun d => d.parameters.length) = some 0 := by decide +kernel
set_option maxHeartbeats 4000000 in
theorem met_X15_isOfCodes (l : Launch) (G : GP) (d : Nat) {post : Bool → HS → Prop} {y0 : HS} {a0 : Nat} (hw : wp_X15_isOfCodes G post y0 a0) : vx_Met l yX15_isOfCodes (ws_ yX15_isOfCodes cX15_isOfCodes 1 (some .boolean)) (rmB (d + 0) 0) (hPc G y0 [va_rf (some a0)]) (hQz G y0 post) (hX G y0 (fun _ _ _ => False)) 0 (20 * 0) (HA y0) := by
  unfold wp_X15_isOfCodes at hw
  refine hv_met (own := RX15) (by decide) rfl (Nat.le_of_ble_eq_true rfl) ?_
  intro p e s m args below meth c ls E hr hlocks hnm hE hK hI hl
  replace hl : lv_has ls 1 [(0, va_rf (some a0))] := hl
  refine hv_aload_n (r := some a0) E.1 E.2.1 dX15_isOfCodes_0 rfl (lv_at hl 0 rfl) ?_
  obtain ⟨f1, ⟨fs, hfs, hfk⟩, hw⟩ := hw
  refine hv_get (v := va_rf f1) E hK hI ciX15 1 (Nat.le_of_ble_eq_true rfl) q1158 (fun _ h => h) (Or.inl hfs) hfk dX15_isOfCodes_1 ?_
  refine hv_ifnull (r := f1) (tgt := 11) E.1 E.2.1 dX15_isOfCodes_4 (by decide) (fun c2 => ?_) (fun a3 c2 => ?_)
  · replace hw := hw.1 c2
    refine lv_iconst (v := nI 0) E.1 E.2.1 dX15_isOfCodes_11 rfl ?_
    exact hv_iretz (b := false) E hr hlocks hI (Nat.le_refl 0) rfl hw dX15_isOfCodes_12
  · replace hw := hw.2 a3 c2
    revert hl hw; subst c2; intro hl hw
    refine lv_iconst (v := nI 1) E.1 E.2.1 dX15_isOfCodes_7 rfl ?_
    refine lv_goto (tgt := 12) E.1 E.2.1 dX15_isOfCodes_8 (by decide) ?_
    exact hv_iretz (b := true) E hr hlocks hI (Nat.le_refl 0) rfl hw dX15_isOfCodes_12
/-- CaseGrouper$Atom.<init>(Ljava/lang/String;LCaseGrouper$Span;III)V -/
def wp_X15_init (G : GP) (post : HS → Prop) (y0 : HS) (a0 : Nat) (p1 : Option Nat) (p2 : Option Nat) (i3 : Int32) (i4 : Int32) (i5 : Int32) : Prop := ∃ fs2, y0.1 a0 = some (ob 13 fs2) ∧ 0 < fs2.length ∧ ∀ y1, y1 = hput y0 a0 (ob 13 (fs2.set 0 (va_rf p1))) → ∃ fs4, y1.1 a0 = some (ob 13 fs4) ∧ 1 < fs4.length ∧ ∀ y3, y3 = hput y1 a0 (ob 13 (fs4.set 1 (va_rf p2))) → ∃ fs6, y3.1 a0 = some (ob 13 fs6) ∧ 2 < fs6.length ∧ ∀ y5, y5 = hput y3 a0 (ob 13 (fs6.set 2 (.int (i3)))) → ∃ fs8, y5.1 a0 = some (ob 13 fs8) ∧ 3 < fs8.length ∧ ∀ y7, y7 = hput y5 a0 (ob 13 (fs8.set 3 (.int (i4)))) → ∃ fs10, y7.1 a0 = some (ob 13 fs10) ∧ 4 < fs10.length ∧ ∀ y9, y9 = hput y7 a0 (ob 13 (fs10.set 4 (.int (i5)))) → post y9
theorem hs_X15_init : yX15_init.cls ≠ "java/lang/invoke/MethodHandle" ∧ yX15_init.cls ≠ "java/lang/invoke/VarHandle" ∧ (parseMethodDescriptor yX15_init.desc).map (fun d => d.parameters.length) = some 5 := by decide +kernel
set_option maxHeartbeats 4000000 in
theorem met_X15_init (l : Launch) (G : GP) (d : Nat) {post : HS → Prop} {y0 : HS} {a0 : Nat} {p1 : Option Nat} {p2 : Option Nat} {i3 : Int32} {i4 : Int32} {i5 : Int32} (hw : wp_X15_init G post y0 a0 p1 p2 i3 i4 i5) : vx_Met l yX15_init (ws_ yX15_init cX15_init 6 none) (rmB (d + 1) 0) (hPc G y0 [va_rf (some a0), va_rf p1, va_rf p2, .int (i3), .int (i4), .int (i5)]) (hQv G y0 post) (hX G y0 (fun _ _ _ => False)) 0 (20 * 0) (HA y0) := by
  unfold wp_X15_init at hw
  refine hv_met (own := RX15) (by decide) rfl (by simp [lg_sl, va_rf_cat, int_cat, long_cat]) ?_
  intro p e s m args below meth c ls E hr hlocks hnm hE hK hI hl
  replace hl : lv_has ls 6 [(0, va_rf (some a0)), (1, va_rf p1), (2, va_rf p2), (3, .int (i3)), (4, .int (i4)), (5, .int (i5))] := by simpa [lv_args, va_rf_cat, int_cat, long_cat] using hl
  refine hv_aload_n (r := some a0) E.1 E.2.1 dX15_init_0 rfl (lv_at hl 0 rfl) ?_
  refine hv_objInit (r := some a0) E q1153 hl.1 rfl (by first | rfl | decide | (simp [va_rf_cat, int_cat, long_cat]; done) | (simp [va_rf_cat, int_cat, long_cat]; decide)) dX15_init_1 ?_
  refine hv_aload_n (r := some a0) E.1 E.2.1 dX15_init_4 rfl (lv_at hl 0 rfl) ?_
  refine hv_aload_n (r := p1) E.1 E.2.1 dX15_init_5 rfl (lv_at hl 1 rfl) ?_
  obtain ⟨fs2, hfs, hln, hw⟩ := hw
  refine hv_putF (v := va_rf p1) E hK hI ciX15 0 (Nat.le_of_ble_eq_true rfl) q1154 (fun _ h => h) rfl hnm rfl (rf_nar _ _ rfl) (rf_fit _ _ rfl) hfs hln dX15_init_6 (fun H locs hI => ?_)
  obtain ⟨y1, ey1⟩ : ∃ w, w = hput y0 a0 (ob 13 (fs2.set 0 (va_rf p1))) := ⟨_, rfl⟩
  rw [← ey1] at hI
  replace hw := hw y1 ey1
  refine hv_aload_n (r := some a0) E.1 E.2.1 dX15_init_9 rfl (lv_at hl 0 rfl) ?_
  refine hv_aload_n (r := p2) E.1 E.2.1 dX15_init_10 rfl (lv_at hl 2 rfl) ?_
  obtain ⟨fs4, hfs, hln, hw⟩ := hw
  refine hv_putF (v := va_rf p2) E hK hI ciX15 1 (Nat.le_of_ble_eq_true rfl) q1158 (fun _ h => h) rfl hnm rfl (rf_nar _ _ rfl) (rf_fit _ _ rfl) hfs hln dX15_init_11 (fun H locs hI => ?_)
  obtain ⟨y3, ey3⟩ : ∃ w, w = hput y1 a0 (ob 13 (fs4.set 1 (va_rf p2))) := ⟨_, rfl⟩
  rw [← ey3] at hI
  replace hw := hw y3 ey3
  refine hv_aload_n (r := some a0) E.1 E.2.1 dX15_init_14 rfl (lv_at hl 0 rfl) ?_
  refine lv_iload_n E.1 E.2.1 dX15_init_15 rfl (lv_at hl 3 rfl) ?_
  obtain ⟨fs6, hfs, hln, hw⟩ := hw
  refine hv_putF (v := .int (i3)) E hK hI ciX15 2 (Nat.le_of_ble_eq_true rfl) q1160 (fun _ h => h) rfl hnm rfl rfl rfl hfs hln dX15_init_16 (fun H locs hI => ?_)
  obtain ⟨y5, ey5⟩ : ∃ w, w = hput y3 a0 (ob 13 (fs6.set 2 (.int (i3)))) := ⟨_, rfl⟩
  rw [← ey5] at hI
  replace hw := hw y5 ey5
  refine hv_aload_n (r := some a0) E.1 E.2.1 dX15_init_19 rfl (lv_at hl 0 rfl) ?_
  refine lv_iload E.1 E.2.1 dX15_init_20 (lv_at hl 4 rfl) ?_
  obtain ⟨fs8, hfs, hln, hw⟩ := hw
  refine hv_putF (v := .int (i4)) E hK hI ciX15 3 (Nat.le_of_ble_eq_true rfl) q1163 (fun _ h => h) rfl hnm rfl rfl rfl hfs hln dX15_init_22 (fun H locs hI => ?_)
  obtain ⟨y7, ey7⟩ : ∃ w, w = hput y5 a0 (ob 13 (fs8.set 3 (.int (i4)))) := ⟨_, rfl⟩
  rw [← ey7] at hI
  replace hw := hw y7 ey7
  refine hv_aload_n (r := some a0) E.1 E.2.1 dX15_init_25 rfl (lv_at hl 0 rfl) ?_
  refine lv_iload E.1 E.2.1 dX15_init_26 (lv_at hl 5 rfl) ?_
  obtain ⟨fs10, hfs, hln, hw⟩ := hw
  refine hv_putF (v := .int (i5)) E hK hI ciX15 4 (Nat.le_of_ble_eq_true rfl) q1166 (fun _ h => h) rfl hnm rfl rfl rfl hfs hln dX15_init_28 (fun H locs hI => ?_)
  obtain ⟨y9, ey9⟩ : ∃ w, w = hput y7 a0 (ob 13 (fs10.set 4 (.int (i5)))) := ⟨_, rfl⟩
  rw [← ey9] at hI
  replace hw := hw y9 ey9
  exact hv_vret E hr hlocks hI (Nat.le_refl 0) hw dX15_init_31
/-- CaseGrouper$Atom.isLike(LCaseGrouper$Atom;)Z -/
def wp_X15_isLike (G : GP) (post : Bool → HS → Prop) (y0 : HS) (a0 : Nat) (p1 : Option Nat) : Prop := ∃ f1, fR y0 a0 13 0 f1 ∧ ∃ a2, p1 = some a2 ∧ ∃ f3, fR y0 a2 13 0 f3 ∧ ∃ a4, f1 = some a4 ∧ (∃ fs7, rd G y0 a4 (ob 20 fs7)) ∧ wp_J5_equals G (fun b6 y5 => (b6 = false → post false y5) ∧ (b6 = true → (∃ fs11, rd G y5 a0 (ob 13 fs11)) ∧ wp_X15_isOfCodes G (fun b10 y9 => (∃ fs14, rd G y9 a2 (ob 13 fs14)) ∧ wp_X15_isOfCodes G (fun b13 y12 => ((bi b10) = (bi b13) → (∃ fs18, rd G y12 a0 (ob 13 fs18)) ∧ wp_X15_isOfCodes G (fun b17 y16 => (b17 = false → ∃ f20, fI y16 a0 13 2 f20 ∧ ∃ f21, fI y16 a2 13 2 f21 ∧ (¬ f20 = f21 → post false y16) ∧ (f20 = f21 → ∃ f23, fI y16 a0 13 3 f23 ∧ ∃ f24, fI y16 a2 13 3 f24 ∧ (¬ f23 = f24 → post false y16) ∧ (f23 = f24 → post true y16))) ∧ (b17 = true → ∃ f26, fR y16 a0 13 1 f26 ∧ ∃ f27, fR y16 a2 13 1 f27 ∧ ∃ a28, f26 = some a28 ∧ (∃ fs31, rd G y16 a28 (ob 8 fs31)) ∧ wp_X10_isLike G (fun b30 y29 => post b30 y29) y16 a28 f27)) y12 a0) ∧ (¬ (bi b10) = (bi b13) → post false y12)) y9 a2) y5 a0)) y0 a4 f3
theorem hs_X15_isLike : yX15_isLike.cls ≠ "java/lang/invoke/MethodHandle" ∧ yX15_isLike.cls ≠ "java/lang/invoke/VarHandle" ∧ (parseMethodDescriptor yX15_isLike.desc).map (fun d => d.parameters.length) = some 1 := by decide +kernel
theorem hd_X15_isLike : yX15_isLike.cls = RX15 ∧ yX15_isLike.cls ≠ "java/lang/invoke/MethodHandle" ∧ yX15_isLike.cls ≠ "java/lang/invoke/VarHandle" ∧ (parseMethodDescriptor yX15_isLike.desc).map (fun d => d.parameters.length) = some 1 := by decide +kernel
set_option maxHeartbeats 4000000 in
theorem met_X15_isLike (l : Launch) (G : GP) (d : Nat) {post : Bool → HS → Prop} {y0 : HS} {a0 : Nat} {p1 : Option Nat} (hw : wp_X15_isLike G post y0 a0 p1) : vx_Met l yX15_isLike (ws_ yX15_isLike cX15_isLike 2 (some .boolean)) (rmB (d + 2) 0) (hPc G y0 [va_rf (some a0), va_rf p1]) (hQz G y0 post) (hX G y0 (fun _ _ _ => False)) 0 (20 * 0) (HA y0) := by
  unfold wp_X15_isLike at hw
  refine hv_met (own := RX15) (by decide) rfl (by simp [lg_sl, va_rf_cat, int_cat, long_cat]) ?_
  intro p e s m args below meth c ls E hr hlocks hnm hE hK hI hl
  replace hl : lv_has ls 2 [(0, va_rf (some a0)), (1, va_rf p1)] := by simpa [lv_args, va_rf_cat, int_cat, long_cat] using hl
  refine hv_aload_n (r := some a0) E.1 E.2.1 dX15_isLike_0 rfl (lv_at hl 0 rfl) ?_
  obtain ⟨f1, ⟨fs, hfs, hfk⟩, hw⟩ := hw
  refine hv_get (v := va_rf f1) E hK hI ciX15 0 (Nat.le_of_ble_eq_true rfl) q1154 (fun _ h => h) (Or.inl hfs) hfk dX15_isLike_1 ?_
  refine hv_aload_n (r := p1) E.1 E.2.1 dX15_isLike_4 rfl (lv_at hl 1 rfl) ?_
  obtain ⟨a2, ea2, hw⟩ := hw
  revert hl hw; subst ea2; intro hl hw
  obtain ⟨f3, ⟨fs, hfs, hfk⟩, hw⟩ := hw
  refine hv_get (v := va_rf f3) E hK hI ciX15 0 (Nat.le_of_ble_eq_true rfl) q1154 (fun _ h => h) (Or.inl hfs) hfk dX15_isLike_5 ?_
  obtain ⟨a4, ea4, hw⟩ := hw
  revert hl hw; subst ea4; intro hl hw
  obtain ⟨⟨fs7, hrv⟩, hw⟩ := hw
  have hq := hw
  clear hw
  refine hv_callz (u := 0) (B1 := 0) hI (vx_runV (As := [va_rf f3]) (rest := []) E (met_J5_equals l G (d) hq) (cwV 1 E.2.2.2.2 (lw_V q1188 q737 q738 q132 q739) rfl rfl rfl hd_J5_equals (rm_ok (by omega) (by decide))) (hv_preV hK hI hrv rfl) rfl rfl hl.1 rfl (lv_room (by first | rfl | decide | (simp [va_rf_cat, int_cat, long_cat]; done) | (simp [va_rf_cat, int_cat, long_cat]; decide))) dX15_isLike_8 (hv_fit (by first | exact (Nat.le_refl 0) | omega))) (fun _ _ _ _ _ h => h.elim) (fun b6 y5 H locs hw hI => ?_)
  refine lv_if_eq (tgt := 25) E.1 E.2.1 dX15_isLike_11 (by decide) (fun c8 => ?_) (fun c8 => ?_)
  · replace hw := hw.1 (bi_z c8)
    refine lv_iconst (v := nI 0) E.1 E.2.1 dX15_isLike_25 rfl ?_
    exact hv_iretz (b := false) E hr hlocks hI (Nat.le_refl 0) rfl hw dX15_isLike_26
  · replace hw := hw.2 (bi_n c8)
    refine hv_aload_n (r := some a0) E.1 E.2.1 dX15_isLike_14 rfl (lv_at hl 0 rfl) ?_
    obtain ⟨⟨fs11, hrv⟩, hw⟩ := hw
    have hq := hw
    clear hw
    refine hv_callz (u := 0) (B1 := 0) hI (vx_runV (As := []) (rest := []) E (met_X15_isOfCodes l G (d + 1) hq) (cwV 0 E.2.2.2.2 (lw_V q1189 q1147 q1148 q159 q1149) rfl rfl rfl hd_X15_isOfCodes (rm_ok (by omega) (by decide))) (hv_preV hK hI hrv rfl) rfl rfl hl.1 rfl (lv_room (by first | rfl | decide | (simp [va_rf_cat, int_cat, long_cat]; done) | (simp [va_rf_cat, int_cat, long_cat]; decide))) dX15_isLike_15 (hv_fit (by first | exact (Nat.le_refl 0) | omega))) (fun _ _ _ _ _ h => h.elim) (fun b10 y9 H locs hw hI => ?_)
    refine hv_aload_n (r := some a2) E.1 E.2.1 dX15_isLike_18 rfl (lv_at hl 1 rfl) ?_
    obtain ⟨⟨fs14, hrv⟩, hw⟩ := hw
    have hq := hw
    clear hw
    refine hv_callz (u := 0) (B1 := 0) hI (vx_runV (As := []) (rest := [.int (bi b10)]) E (met_X15_isOfCodes l G (d + 1) hq) (cwV 0 E.2.2.2.2 (lw_V q1189 q1147 q1148 q159 q1149) rfl rfl rfl hd_X15_isOfCodes (rm_ok (by omega) (by decide))) (hv_preV hK hI hrv rfl) rfl rfl hl.1 rfl (lv_room (by first | rfl | decide | (simp [va_rf_cat, int_cat, long_cat]; done) | (simp [va_rf_cat, int_cat, long_cat]; decide))) dX15_isLike_19 (hv_fit (by first | exact (Nat.le_refl 0) | omega))) (fun _ _ _ _ _ h => h.elim) (fun b13 y12 H locs hw hI => ?_)
    refine lv_icmp_eq (tgt := 27) E.1 E.2.1 dX15_isLike_22 (by decide) (fun c15 => ?_) (fun c15 => ?_)
    · replace hw := hw.1 (c15)
      refine hv_aload_n (r := some a0) E.1 E.2.1 dX15_isLike_27 rfl (lv_at hl 0 rfl) ?_
      obtain ⟨⟨fs18, hrv⟩, hw⟩ := hw
      have hq := hw
      clear hw
      refine hv_callz (u := 0) (B1 := 0) hI (vx_runV (As := []) (rest := []) E (met_X15_isOfCodes l G (d + 1) hq) (cwV 0 E.2.2.2.2 (lw_V q1189 q1147 q1148 q159 q1149) rfl rfl rfl hd_X15_isOfCodes (rm_ok (by omega) (by decide))) (hv_preV hK hI hrv rfl) rfl rfl hl.1 rfl (lv_room (by first | rfl | decide | (simp [va_rf_cat, int_cat, long_cat]; done) | (simp [va_rf_cat, int_cat, long_cat]; decide))) dX15_isLike_28 (hv_fit (by first | exact (Nat.le_refl 0) | omega))) (fun _ _ _ _ _ h => h.elim) (fun b17 y16 H locs hw hI => ?_)
      refine lv_if_eq (tgt := 48) E.1 E.2.1 dX15_isLike_31 (by decide) (fun c19 => ?_) (fun c19 => ?_)
      · replace hw := hw.1 (bi_z c19)
        refine hv_aload_n (r := some a0) E.1 E.2.1 dX15_isLike_48 rfl (lv_at hl 0 rfl) ?_
        obtain ⟨f20, ⟨fs, hfs, hfk⟩, hw⟩ := hw
        refine hv_get (v := .int f20) E hK hI ciX15 2 (Nat.le_of_ble_eq_true rfl) q1160 (fun _ h => h) (Or.inl hfs) hfk dX15_isLike_49 ?_
        refine hv_aload_n (r := some a2) E.1 E.2.1 dX15_isLike_52 rfl (lv_at hl 1 rfl) ?_
        obtain ⟨f21, ⟨fs, hfs, hfk⟩, hw⟩ := hw
        refine hv_get (v := .int f21) E hK hI ciX15 2 (Nat.le_of_ble_eq_true rfl) q1160 (fun _ h => h) (Or.inl hfs) hfk dX15_isLike_53 ?_
        refine lv_icmp_ne (tgt := 74) E.1 E.2.1 dX15_isLike_56 (by decide) (fun c22 => ?_) (fun c22 => ?_)
        · replace hw := hw.1 (c22)
          refine lv_iconst (v := nI 0) E.1 E.2.1 dX15_isLike_74 rfl ?_
          exact hv_iretz (b := false) E hr hlocks hI (Nat.le_refl 0) rfl hw dX15_isLike_75
        · replace hw := hw.2 (c22)
          refine hv_aload_n (r := some a0) E.1 E.2.1 dX15_isLike_59 rfl (lv_at hl 0 rfl) ?_
          obtain ⟨f23, ⟨fs, hfs, hfk⟩, hw⟩ := hw
          refine hv_get (v := .int f23) E hK hI ciX15 3 (Nat.le_of_ble_eq_true rfl) q1163 (fun _ h => h) (Or.inl hfs) hfk dX15_isLike_60 ?_
          refine hv_aload_n (r := some a2) E.1 E.2.1 dX15_isLike_63 rfl (lv_at hl 1 rfl) ?_
          obtain ⟨f24, ⟨fs, hfs, hfk⟩, hw⟩ := hw
          refine hv_get (v := .int f24) E hK hI ciX15 3 (Nat.le_of_ble_eq_true rfl) q1163 (fun _ h => h) (Or.inl hfs) hfk dX15_isLike_64 ?_
          refine lv_icmp_ne (tgt := 74) E.1 E.2.1 dX15_isLike_67 (by decide) (fun c25 => ?_) (fun c25 => ?_)
          · replace hw := hw.1 (c25)
            refine lv_iconst (v := nI 0) E.1 E.2.1 dX15_isLike_74 rfl ?_
            exact hv_iretz (b := false) E hr hlocks hI (Nat.le_refl 0) rfl hw dX15_isLike_75
          · replace hw := hw.2 (c25)
            refine lv_iconst (v := nI 1) E.1 E.2.1 dX15_isLike_70 rfl ?_
            refine lv_goto (tgt := 75) E.1 E.2.1 dX15_isLike_71 (by decide) ?_
            exact hv_iretz (b := true) E hr hlocks hI (Nat.le_refl 0) rfl hw dX15_isLike_75
      · replace hw := hw.2 (bi_n c19)
        refine hv_aload_n (r := some a0) E.1 E.2.1 dX15_isLike_34 rfl (lv_at hl 0 rfl) ?_
        obtain ⟨f26, ⟨fs, hfs, hfk⟩, hw⟩ := hw
        refine hv_get (v := va_rf f26) E hK hI ciX15 1 (Nat.le_of_ble_eq_true rfl) q1158 (fun _ h => h) (Or.inl hfs) hfk dX15_isLike_35 ?_
        refine hv_aload_n (r := some a2) E.1 E.2.1 dX15_isLike_38 rfl (lv_at hl 1 rfl) ?_
        obtain ⟨f27, ⟨fs, hfs, hfk⟩, hw⟩ := hw
        refine hv_get (v := va_rf f27) E hK hI ciX15 1 (Nat.le_of_ble_eq_true rfl) q1158 (fun _ h => h) (Or.inl hfs) hfk dX15_isLike_39 ?_
        obtain ⟨a28, ea28, hw⟩ := hw
        revert hl hw; subst ea28; intro hl hw
        obtain ⟨⟨fs31, hrv⟩, hw⟩ := hw
        have hq := hw
        clear hw
        refine hv_callz (u := 0) (B1 := 0) hI (vx_runV (As := [va_rf f27]) (rest := []) E (met_X10_isLike l G (d + 1) hq) (cwV 1 E.2.2.2.2 (lw_V q1190 q1191 q1192 q154 q1193) rfl rfl rfl hd_X10_isLike (rm_ok (by omega) (by decide))) (hv_preV hK hI hrv rfl) rfl rfl hl.1 rfl (lv_room (by first | rfl | decide | (simp [va_rf_cat, int_cat, long_cat]; done) | (simp [va_rf_cat, int_cat, long_cat]; decide))) dX15_isLike_42 (hv_fit (by first | exact (Nat.le_refl 0) | omega))) (fun _ _ _ _ _ h => h.elim) (fun b30 y29 H locs hw hI => ?_)
        refine lv_goto (tgt := 75) E.1 E.2.1 dX15_isLike_45 (by decide) ?_
        exact hv_iretz (b := b30) E hr hlocks hI (Nat.le_refl 0) rfl hw dX15_isLike_75
    · replace hw := hw.2 (c15)
      refine lv_iconst (v := nI 0) E.1 E.2.1 dX15_isLike_25 rfl ?_
      exact hv_iretz (b := false) E hr hlocks hI (Nat.le_refl 0) rfl hw dX15_isLike_26
/-- CaseGrouper$Choice.<init>(Ljava/lang/Object;[Ljava/lang/Object;)V -/
def wp_X16_init (G : GP) (post : HS → Prop) (y0 : HS) (a0 : Nat) (p1 : Option Nat) (p2 : Option Nat) : Prop := ∃ fs2, y0.1 a0 = some (ob 14 fs2) ∧ 0 < fs2.length ∧ ∀ y1, y1 = hput y0 a0 (ob 14 (fs2.set 0 (va_rf p1))) → ∃ fs4, y1.1 a0 = some (ob 14 fs4) ∧ 1 < fs4.length ∧ ∀ y3, y3 = hput y1 a0 (ob 14 (fs4.set 1 (va_rf p2))) → post y3
theorem hs_X16_init : yX16_init.cls ≠ "java/lang/invoke/MethodHandle" ∧ yX16_init.cls ≠ "java/lang/invoke/VarHandle" ∧ (parseMethodDescriptor yX16_init.desc).map (fun d => d.parameters.length) = some 2 := by decide +kernel
set_option maxHeartbeats 4000000 in
theorem met_X16_init (l : Launch) (G : GP) (d : Nat) {post : HS → Prop} {y0 : HS} {a0 : Nat} {p1 : Option Nat} {p2 : Option Nat} (hw : wp_X16_init G post y0 a0 p1 p2) : vx_Met l yX16_init (ws_ yX16_init cX16_init 3 none) (rmB (d + 1) 0) (hPc G y0 [va_rf (some a0), va_rf p1, va_rf p2]) (hQv G y0 post) (hX G y0 (fun _ _ _ => False)) 0 (20 * 0) (HA y0) := by
  unfold wp_X16_init at hw
  refine hv_met (own := RX16) (by decide) rfl (by simp [lg_sl, va_rf_cat, int_cat, long_cat]) ?_
  intro p e s m args below meth c ls E hr hlocks hnm hE hK hI hl
  replace hl : lv_has ls 3 [(0, va_rf (some a0)), (1, va_rf p1), (2, va_rf p2)] := by simpa [lv_args, va_rf_cat, int_cat, long_cat] using hl
  refine hv_aload_n (r := some a0) E.1 E.2.1 dX16_init_0 rfl (lv_at hl 0 rfl) ?_
  refine hv_objInit (r := some a0) E q1208 hl.1 rfl (by first | rfl | decide | (simp [va_rf_cat, int_cat, long_cat]; done) | (simp [va_rf_cat, int_cat, long_cat]; decide)) dX16_init_1 ?_
  refine hv_aload_n (r := some a0) E.1 E.2.1 dX16_init_4 rfl (lv_at hl 0 rfl) ?_
  refine hv_aload_n (r := p1) E.1 E.2.1 dX16_init_5 rfl (lv_at hl 1 rfl) ?_
  obtain ⟨fs2, hfs, hln, hw⟩ := hw
  refine hv_putF (v := va_rf p1) E hK hI ciX16 0 (Nat.le_of_ble_eq_true rfl) q1209 (fun _ h => h) rfl hnm rfl (rf_nar _ _ rfl) (rf_fit _ _ rfl) hfs hln dX16_init_6 (fun H locs hI => ?_)
  obtain ⟨y1, ey1⟩ : ∃ w, w = hput y0 a0 (ob 14 (fs2.set 0 (va_rf p1))) := ⟨_, rfl⟩
  rw [← ey1] at hI
  replace hw := hw y1 ey1
  refine hv_aload_n (r := some a0) E.1 E.2.1 dX16_init_9 rfl (lv_at hl 0 rfl) ?_
  refine hv_aload_n (r := p2) E.1 E.2.1 dX16_init_10 rfl (lv_at hl 2 rfl) ?_
  obtain ⟨fs4, hfs, hln, hw⟩ := hw
  refine hv_putF (v := va_rf p2) E hK hI ciX16 1 (Nat.le_of_ble_eq_true rfl) q1211 (fun _ h => h) rfl hnm rfl (rf_nar _ _ rfl) (rf_fit _ _ rfl) hfs hln dX16_init_11 (fun H locs hI => ?_)
  obtain ⟨y3, ey3⟩ : ∃ w, w = hput y1 a0 (ob 14 (fs4.set 1 (va_rf p2))) := ⟨_, rfl⟩
  rw [← ey3] at hI
  replace hw := hw y3 ey3
  exact hv_vret E hr hlocks hI (Nat.le_refl 0) hw dX16_init_14
/-- CaseGrouper$Stay.<init>()V -/
def wp_X19_init (G : GP) (B : Nat) (post : HS → Prop) (y0 : HS) (a0 : Nat) : Prop := 0 + 1 ≤ B ∧ ∀ a2, a2 = y0.2 → ∀ y1, y1 = hnew y0 (ob 18 [.int 0, va_rf none, .int 0]) → wp_J2_init G (fun y3 => ∃ fs5, y3.1 a0 = some (ob 17 fs5) ∧ 3 < fs5.length ∧ ∀ y4, y4 = hput y3 a0 (ob 17 (fs5.set 3 (va_rf (some a2)))) → (0 + 1) + 1 ≤ B ∧ ∀ a7, a7 = y4.2 → ∀ y6, y6 = hnew y4 (ob 18 [.int 0, va_rf none, .int 0]) → wp_J2_init G (fun y8 => ∃ fs10, y8.1 a0 = some (ob 17 fs10) ∧ 4 < fs10.length ∧ ∀ y9, y9 = hput y8 a0 (ob 17 (fs10.set 4 (va_rf (some a7)))) → post y9) y6 a7) y1 a2
theorem hs_X19_init : yX19_init.cls ≠ "java/lang/invoke/MethodHandle" ∧ yX19_init.cls ≠ "java/lang/invoke/VarHandle" ∧ (parseMethodDescriptor yX19_init.desc).map (fun d => d.parameters.length) = some 0 := by decide +kernel
set_option maxHeartbeats 4000000 in
theorem met_X19_init (l : Launch) (G : GP) (d : Nat) {B : Nat} {post : HS → Prop} {y0 : HS} {a0 : Nat} (hw : wp_X19_init G B post y0 a0) : vx_Met l yX19_init (ws_ yX19_init cX19_init 1 none) (rmB (d + 4) B) (hPc G y0 [va_rf (some a0)]) (hQv G y0 post) (hX G y0 (fun _ _ _ => False)) B (20 * B) (HA y0) := by
  unfold wp_X19_init at hw
  refine hv_met (own := RX19) (by decide) rfl (Nat.le_of_ble_eq_true rfl) ?_
  intro p e s m args below meth c ls E hr hlocks hnm hE hK hI hl
  replace hl : lv_has ls 1 [(0, va_rf (some a0))] := hl
  have hu : 0 ≤ B := Nat.zero_le _
  refine hv_aload_n (r := some a0) E.1 E.2.1 dX19_init_0 rfl (lv_at hl 0 rfl) ?_
  refine hv_objInit (r := some a0) E q1459 hl.1 rfl (by first | rfl | decide | (simp [va_rf_cat, int_cat, long_cat]; done) | (simp [va_rf_cat, int_cat, long_cat]; decide)) dX19_init_1 ?_
  refine hv_aload_n (r := some a0) E.1 E.2.1 dX19_init_4 rfl (lv_at hl 0 rfl) ?_
  obtain ⟨hu, hw⟩ := hw
  refine hv_new (fs := [.int 0, va_rf none, .int 0]) E hK hI ciJ2 q1460 q203 q124 (df18) (Nat.le_of_ble_eq_true rfl) hu dX19_init_5 (fun H hI => ?_)
  obtain ⟨a2, ea2⟩ : ∃ w, w = y0.2 := ⟨_, rfl⟩
  obtain ⟨y1, ey1⟩ : ∃ w, w = hnew y0 (ob 18 [.int 0, va_rf none, .int 0]) := ⟨_, rfl⟩
  rw [← ea2]
  rw [← ey1] at hI
  replace hw := hw a2 ea2 y1 ey1
  refine hv_dup E.1 E.2.1 dX19_init_8 ?_
  have hq := hw
  clear hw
  refine hv_callv (u := ((0 + 1))) (B1 := 0) hI (vx_runI (b := a2) (As := []) (rest := [va_rf (some a2), va_rf (some a0)]) E (met_J2_init l G (d) hq) (cwI 0 E.2.2.2.2 (lw_meth q206) rfl rfl rfl (E.2.2.2.2 _ q124) (E.2.2.2.2 _ q1461) (E.2.2.2.2 _ q205) rfl hs_J2_init (rm_ok (by omega) (by decide))) (hv_preS hK hI) rfl rfl hl.1 rfl (lv_room (by first | rfl | decide | (simp [va_rf_cat, int_cat, long_cat]; done) | (simp [va_rf_cat, int_cat, long_cat]; decide))) dX19_init_9 (hv_fit (by first | exact hu | omega))) (fun _ _ _ _ _ h => h.elim) (fun y3 H locs hw hI => ?_)
  obtain ⟨fs5, hfs, hln, hw⟩ := hw
  refine hv_putF (v := va_rf (some a2)) E hK hI ciX19 3 (Nat.le_of_ble_eq_true rfl) q1469 (fun _ h => h) rfl hnm rfl (rf_nar _ _ rfl) (rf_fit _ _ rfl) hfs hln dX19_init_12 (fun H locs hI => ?_)
  obtain ⟨y4, ey4⟩ : ∃ w, w = hput y3 a0 (ob 17 (fs5.set 3 (va_rf (some a2)))) := ⟨_, rfl⟩
  rw [← ey4] at hI
  replace hw := hw y4 ey4
  refine hv_aload_n (r := some a0) E.1 E.2.1 dX19_init_15 rfl (lv_at hl 0 rfl) ?_
  obtain ⟨hu, hw⟩ := hw
  refine hv_new (fs := [.int 0, va_rf none, .int 0]) E hK hI ciJ2 q1460 q203 q124 (df18) (Nat.le_of_ble_eq_true rfl) hu dX19_init_16 (fun H hI => ?_)
  obtain ⟨a7, ea7⟩ : ∃ w, w = y4.2 := ⟨_, rfl⟩
  obtain ⟨y6, ey6⟩ : ∃ w, w = hnew y4 (ob 18 [.int 0, va_rf none, .int 0]) := ⟨_, rfl⟩
  rw [← ea7]
  rw [← ey6] at hI
  replace hw := hw a7 ea7 y6 ey6
  refine hv_dup E.1 E.2.1 dX19_init_19 ?_
  have hq := hw
  clear hw
  refine hv_callv (u := (((0 + 1) + 1))) (B1 := 0) hI (vx_runI (b := a7) (As := []) (rest := [va_rf (some a7), va_rf (some a0)]) E (met_J2_init l G (d) hq) (cwI 0 E.2.2.2.2 (lw_meth q206) rfl rfl rfl (E.2.2.2.2 _ q124) (E.2.2.2.2 _ q1461) (E.2.2.2.2 _ q205) rfl hs_J2_init (rm_ok (by omega) (by decide))) (hv_preS hK hI) rfl rfl hl.1 rfl (lv_room (by first | rfl | decide | (simp [va_rf_cat, int_cat, long_cat]; done) | (simp [va_rf_cat, int_cat, long_cat]; decide))) dX19_init_20 (hv_fit (by first | exact hu | omega))) (fun _ _ _ _ _ h => h.elim) (fun y8 H locs hw hI => ?_)
  obtain ⟨fs10, hfs, hln, hw⟩ := hw
  refine hv_putF (v := va_rf (some a7)) E hK hI ciX19 4 (Nat.le_of_ble_eq_true rfl) q1472 (fun _ h => h) rfl hnm rfl (rf_nar _ _ rfl) (rf_fit _ _ rfl) hfs hln dX19_init_23 (fun H locs hI => ?_)
  obtain ⟨y9, ey9⟩ : ∃ w, w = hput y8 a0 (ob 17 (fs10.set 4 (va_rf (some a7)))) := ⟨_, rfl⟩
  rw [← ey9] at hI
  replace hw := hw y9 ey9
  exact hv_vret E hr hlocks hI hu hw dX19_init_26
/-- CaseGrouper.isDiagnosis(I)Z -/
def wp_X1_isDiagnosis (G : GP) (post : Bool → HS → Prop) (y0 : HS) (i0 : Int32) : Prop := wp_X1_within G (fun b2 y1 => post b2 y1) y0 i0 (nI 0) (nI 999)
theorem hs_X1_isDiagnosis : yX1_isDiagnosis.cls ≠ "java/lang/invoke/MethodHandle" ∧ yX1_isDiagnosis.cls ≠ "java/lang/invoke/VarHandle" ∧ (parseMethodDescriptor yX1_isDiagnosis.desc).map (fun d => d.parameters.length) = some 1 := by decide +kernel
set_option maxHeartbeats 4000000 in
theorem met_X1_isDiagnosis (l : Launch) (G : GP) (d : Nat) {post : Bool → HS → Prop} {y0 : HS} {i0 : Int32} (hw : wp_X1_isDiagnosis G post y0 i0) : vx_Met l yX1_isDiagnosis (ws_ yX1_isDiagnosis cX1_isDiagnosis 1 (some .boolean)) (rmB (d + 1) 0) (hPc G y0 [.int (i0)]) (hQz G y0 post) (hX G y0 (fun _ _ _ => False)) 0 (20 * 0) (HA y0) := by
  unfold wp_X1_isDiagnosis at hw
  refine hv_met (own := RX1) (by decide) rfl (Nat.le_of_ble_eq_true rfl) ?_
  intro p e s m args below meth c ls E hr hlocks hnm hE hK hI hl
  replace hl : lv_has ls 1 [(0, .int (i0))] := hl
  refine lv_iload_n E.1 E.2.1 dX1_isDiagnosis_0 rfl (lv_at hl 0 rfl) ?_
  refine lv_iconst (v := nI 0) E.1 E.2.1 dX1_isDiagnosis_1 rfl ?_
  refine lv_sipush (v := nI 999) E.1 E.2.1 dX1_isDiagnosis_2 rfl ?_
  have hq := hw
  clear hw
  refine hv_callz (u := 0) (B1 := 0) hI (vx_runS (As := [.int (i0), .int (nI 0), .int (nI 999)]) (rest := []) E (met_X1_within l G (d) hq) (va_cwS 3 E.2.2.2.2 (lw_S q180 q181 q121 q182) rfl rfl rfl hs_X1_within (rm_ok (by omega) (by decide))) (hv_preS hK hI) rfl rfl hl.1 rfl (lv_room (by first | rfl | decide | (simp [va_rf_cat, int_cat, long_cat]; done) | (simp [va_rf_cat, int_cat, long_cat]; decide))) dX1_isDiagnosis_5 (hv_fit (by first | exact (Nat.le_refl 0) | omega))) (fun _ _ _ _ _ h => h.elim) (fun b2 y1 H locs hw hI => ?_)
  exact hv_iretz (b := b2) E hr hlocks hI (Nat.le_refl 0) rfl hw dX1_isDiagnosis_8
/-- CaseGrouper$Stay.of(I)Ljava/util/ArrayList; -/
def wp_X19_of (G : GP) (post : Option Nat → HS → Prop) (y0 : HS) (a0 : Nat) (i1 : Int32) : Prop := wp_X1_isDiagnosis G (fun b2 y1 => (b2 = false → ∃ f4, fR y1 a0 17 4 f4 ∧ post f4 y1) ∧ (b2 = true → ∃ f5, fR y1 a0 17 3 f5 ∧ post f5 y1)) y0 i1
theorem hs_X19_of : yX19_of.cls ≠ "java/lang/invoke/MethodHandle" ∧ yX19_of.cls ≠ "java/lang/invoke/VarHandle" ∧ (parseMethodDescriptor yX19_of.desc).map (fun d => d.parameters.length) = some 1 := by decide +kernel
theorem hd_X19_of : yX19_of.cls = RX19 ∧ yX19_of.cls ≠ "java/lang/invoke/MethodHandle" ∧ yX19_of.cls ≠ "java/lang/invoke/VarHandle" ∧ (parseMethodDescriptor yX19_of.desc).map (fun d => d.parameters.length) = some 1 := by decide +kernel
set_option maxHeartbeats 4000000 in
theorem met_X19_of (l : Launch) (G : GP) (d : Nat) {post : Option Nat → HS → Prop} {y0 : HS} {a0 : Nat} {i1 : Int32} (hw : wp_X19_of G post y0 a0 i1) : vx_Met l yX19_of (ws_ yX19_of cX19_of 2 (some (.object "java/util/ArrayList"))) (rmB (d + 2) 0) (hPc G y0 [va_rf (some a0), .int (i1)]) (hQq G y0 post) (hX G y0 (fun _ _ _ => False)) 0 (20 * 0) (HA y0) := by
  unfold wp_X19_of at hw
  refine hv_met (own := RX19) (by decide) rfl (Nat.le_of_ble_eq_true rfl) ?_
  intro p e s m args below meth c ls E hr hlocks hnm hE hK hI hl
  replace hl : lv_has ls 2 [(0, va_rf (some a0)), (1, .int (i1))] := hl
  refine lv_iload_n E.1 E.2.1 dX19_of_0 rfl (lv_at hl 1 rfl) ?_
  have hq := hw
  clear hw
  refine hv_callz (u := 0) (B1 := 0) hI (vx_runSN (As := [.int (i1)]) (rest := []) E (met_X1_isDiagnosis l G (d) hq) ⟨va_cnB 1 E.2.2.2.2 (lw_meth q980) rfl rfl rfl (hK.2.2.2.2.1 _ q1500 rfl) (E.2.2.2.2 _ q121) hs_X1_isDiagnosis (rm_ok (by omega) (by decide)), E.2.2.2.2 _ q979, trivial⟩ (hv_preS hK hI) rfl rfl hl.1 rfl (lv_room (by first | rfl | decide | (simp [va_rf_cat, int_cat, long_cat]; done) | (simp [va_rf_cat, int_cat, long_cat]; decide))) dX19_of_1 (hv_fit (by first | exact (Nat.le_refl 0) | omega))) (fun _ _ _ _ _ h => h.elim) (fun b2 y1 H locs hw hI => ?_)
  refine lv_if_eq (tgt := 14) E.1 E.2.1 dX19_of_4 (by decide) (fun c3 => ?_) (fun c3 => ?_)
  · replace hw := hw.1 (bi_z c3)
    refine hv_aload_n (r := some a0) E.1 E.2.1 dX19_of_14 rfl (lv_at hl 0 rfl) ?_
    obtain ⟨f4, ⟨fs, hfs, hfk⟩, hw⟩ := hw
    refine hv_get (v := va_rf f4) E hK hI ciX19 4 (Nat.le_of_ble_eq_true rfl) q1472 (fun _ h => h) (Or.inl hfs) hfk dX19_of_15 ?_
    exact hv_aret (r := f4) E hr (Or.inl ⟨_, rfl⟩) hlocks hI (Nat.le_refl 0) hw dX19_of_18
  · replace hw := hw.2 (bi_n c3)
    refine hv_aload_n (r := some a0) E.1 E.2.1 dX19_of_7 rfl (lv_at hl 0 rfl) ?_
    obtain ⟨f5, ⟨fs, hfs, hfk⟩, hw⟩ := hw
    refine hv_get (v := va_rf f5) E hK hI ciX19 3 (Nat.le_of_ble_eq_true rfl) q1469 (fun _ h => h) (Or.inl hfs) hfk dX19_of_8 ?_
    refine lv_goto (tgt := 18) E.1 E.2.1 dX19_of_11 (by decide) ?_
    exact hv_aret (r := f5) E hr (Or.inl ⟨_, rfl⟩) hlocks hI (Nat.le_refl 0) hw dX19_of_18
/-- CaseGrouper.isProcedure(I)Z -/
def wp_X1_isProcedure (G : GP) (post : Bool → HS → Prop) (y0 : HS) (i0 : Int32) : Prop := wp_X1_within G (fun b2 y1 => post b2 y1) y0 i0 (nI 1000) (nI 1499)
theorem hs_X1_isProcedure : yX1_isProcedure.cls ≠ "java/lang/invoke/MethodHandle" ∧ yX1_isProcedure.cls ≠ "java/lang/invoke/VarHandle" ∧ (parseMethodDescriptor yX1_isProcedure.desc).map (fun d => d.parameters.length) = some 1 := by decide +kernel
set_option maxHeartbeats 4000000 in
theorem met_X1_isProcedure (l : Launch) (G : GP) (d : Nat) {post : Bool → HS → Prop} {y0 : HS} {i0 : Int32} (hw : wp_X1_isProcedure G post y0 i0) : vx_Met l yX1_isProcedure (ws_ yX1_isProcedure cX1_isProcedure 1 (some .boolean)) (rmB (d + 1) 0) (hPc G y0 [.int (i0)]) (hQz G y0 post) (hX G y0 (fun _ _ _ => False)) 0 (20 * 0) (HA y0) := by
  unfold wp_X1_isProcedure at hw
  refine hv_met (own := RX1) (by decide) rfl (Nat.le_of_ble_eq_true rfl) ?_
  intro p e s m args below meth c ls E hr hlocks hnm hE hK hI hl
  replace hl : lv_has ls 1 [(0, .int (i0))] := hl
  refine lv_iload_n E.1 E.2.1 dX1_isProcedure_0 rfl (lv_at hl 0 rfl) ?_
  refine lv_sipush (v := nI 1000) E.1 E.2.1 dX1_isProcedure_1 rfl ?_
  refine lv_sipush (v := nI 1499) E.1 E.2.1 dX1_isProcedure_4 rfl ?_
  have hq := hw
  clear hw
  refine hv_callz (u := 0) (B1 := 0) hI (vx_runS (As := [.int (i0), .int (nI 1000), .int (nI 1499)]) (rest := []) E (met_X1_within l G (d) hq) (va_cwS 3 E.2.2.2.2 (lw_S q180 q181 q121 q182) rfl rfl rfl hs_X1_within (rm_ok (by omega) (by decide))) (hv_preS hK hI) rfl rfl hl.1 rfl (lv_room (by first | rfl | decide | (simp [va_rf_cat, int_cat, long_cat]; done) | (simp [va_rf_cat, int_cat, long_cat]; decide))) dX1_isProcedure_7 (hv_fit (by first | exact (Nat.le_refl 0) | omega))) (fun _ _ _ _ _ h => h.elim) (fun b2 y1 H locs hw hI => ?_)
  exact hv_iretz (b := b2) E hr hlocks hI (Nat.le_refl 0) rfl hw dX1_isProcedure_10
/-- CaseGrouper$Stay.mayHave(I)Z -/
def wp_X19_mayHave (G : GP) (B : Nat) (post : Bool → HS → Prop) (y0 : HS) (a0 : Nat) (i1 : Int32) : Prop := ∃ J1 : HS → Nat → Prop, (∀ (y3 : HS) (u4 : Nat), J1 y3 u4 → u4 ≤ B ∧ ∃ f5, fI y3 a0 17 0 f5 ∧ (i1 = f5 → post false y3) ∧ (¬ i1 = f5 → (∃ fs9, rd G y3 a0 (ob 17 fs9)) ∧ wp_X19_of G (fun r8 y7 => ∃ k12, u4 + k12 ≤ B ∧ wp_J13_valueOf G k12 (fun r11 y10 => ∃ a13, r8 = some a13 ∧ (∃ fs16, rd G y10 a13 (ob 18 fs16)) ∧ wp_J2_contains G (fun b15 y14 => (b15 = false → ∃ J18 : HS → Nat → Int32 → Int32 → Prop, (∀ (y20 : HS) (u23 : Nat) (x21 : Int32) (x22 : Int32), J18 y20 u23 x21 x22 → u23 ≤ B ∧ (x21 ≤ x22 → post false y20) ∧ (¬ x21 ≤ x22 → post true y20)) ∧ ((∃ fs27, rd G y14 a0 (ob 17 fs27)) ∧ wp_X19_of G (fun r26 y25 => ∃ a28, r26 = some a28 ∧ (∃ fs31, rd G y25 a28 (ob 18 fs31)) ∧ wp_J2_size G (fun x30 y29 => wp_X1_isDiagnosis G (fun b33 y32 => (b33 = false → J18 y32 ((u4 + k12)) (nI 6) x30) ∧ (b33 = true → J18 y32 ((u4 + k12)) (nI 8) x30)) y29 i1) y25 a28) y14 a0 i1)) ∧ (b15 = true → post false y14)) y10 a13 r11) y7 i1) y3 a0 i1)) ∧ (wp_X1_isDiagnosis G (fun b37 y36 => (b37 = true → J1 y36 0 ) ∧ (b37 = false → wp_X1_isProcedure G (fun b40 y39 => (b40 = false → post false y39) ∧ (b40 = true → J1 y39 0 )) y36 i1)) y0 i1)
theorem hs_X19_mayHave : yX19_mayHave.cls ≠ "java/lang/invoke/MethodHandle" ∧ yX19_mayHave.cls ≠ "java/lang/invoke/VarHandle" ∧ (parseMethodDescriptor yX19_mayHave.desc).map (fun d => d.parameters.length) = some 1 := by decide +kernel
theorem hd_X19_mayHave : yX19_mayHave.cls = RX19 ∧ yX19_mayHave.cls ≠ "java/lang/invoke/MethodHandle" ∧ yX19_mayHave.cls ≠ "java/lang/invoke/VarHandle" ∧ (parseMethodDescriptor yX19_mayHave.desc).map (fun d => d.parameters.length) = some 1 := by decide +kernel
set_option maxHeartbeats 4000000 in
theorem met_X19_mayHave (l : Launch) (G : GP) (d : Nat) {B : Nat} {post : Bool → HS → Prop} {y0 : HS} {a0 : Nat} {i1 : Int32} (hw : wp_X19_mayHave G B post y0 a0 i1) : vx_Met l yX19_mayHave (ws_ yX19_mayHave cX19_mayHave 2 (some .boolean)) (rmB (d + 5) B) (hPc G y0 [va_rf (some a0), .int (i1)]) (hQz G y0 post) (hX G y0 (fun _ _ _ => False)) B (20 * B) (HA y0) := by
  unfold wp_X19_mayHave at hw
  refine hv_met (own := RX19) (by decide) rfl (Nat.le_of_ble_eq_true rfl) ?_
  intro p e s m args below meth c ls E hr hlocks hnm hE hK hI hl
  replace hl : lv_has ls 2 [(0, va_rf (some a0)), (1, .int (i1))] := hl
  have hu : 0 ≤ B := Nat.zero_le _
  obtain ⟨J1, hj42, hw⟩ := hw
  have jh2 : ∀ (y3 : HS) (u4 : Nat), J1 y3 u4 → ∀ (H : Heap) (locs : List Loc) (ls : Array Slot), HI G y0 y3 s H locs → lv_has ls 2 [(0, va_rf (some a0)), (1, .int (i1))] → W p l e (rmB (d + 5) B) s m args below meth c H locs u4 (20 * u4) (vx_MQ below (hQz G y0 post) (hX G y0 (fun _ _ _ => False)) args s B (20 * B) (HA y0)) (F0 m 14 ls []) := by
    intro y3 u4 hw H locs ls hI hl
    replace hw := hj42 y3 u4 hw
    obtain ⟨hu, hw⟩ := hw
    refine lv_iload_n E.1 E.2.1 dX19_mayHave_14 rfl (lv_at hl 1 rfl) ?_
    refine hv_aload_n (r := some a0) E.1 E.2.1 dX19_mayHave_15 rfl (lv_at hl 0 rfl) ?_
    obtain ⟨f5, ⟨fs, hfs, hfk⟩, hw⟩ := hw
    refine hv_get (v := .int f5) E hK hI ciX19 0 (Nat.le_of_ble_eq_true rfl) q1462 (fun _ h => h) (Or.inl hfs) hfk dX19_mayHave_16 ?_
    refine lv_icmp_eq (tgt := 37) E.1 E.2.1 dX19_mayHave_19 (by decide) (fun c6 => ?_) (fun c6 => ?_)
    · replace hw := hw.1 (c6)
      refine lv_iconst (v := nI 0) E.1 E.2.1 dX19_mayHave_37 rfl ?_
      exact hv_iretz (b := false) E hr hlocks hI hu rfl hw dX19_mayHave_38
    · replace hw := hw.2 (c6)
      refine hv_aload_n (r := some a0) E.1 E.2.1 dX19_mayHave_22 rfl (lv_at hl 0 rfl) ?_
      refine lv_iload_n E.1 E.2.1 dX19_mayHave_23 rfl (lv_at hl 1 rfl) ?_
      obtain ⟨⟨fs9, hrv⟩, hw⟩ := hw
      have hq := hw
      clear hw
      refine hv_callq (u := u4) (B1 := 0) hI (vx_runV (As := [.int (i1)]) (rest := []) E (met_X19_of l G (d + 2) hq) (cwV 1 E.2.2.2.2 (lw_V q1504 q1505 q1506 q163 q1507) rfl rfl rfl hd_X19_of (rm_ok (by omega) (by decide))) (hv_preV hK hI hrv rfl) rfl rfl hl.1 rfl (lv_room (by first | rfl | decide | (simp [va_rf_cat, int_cat, long_cat]; done) | (simp [va_rf_cat, int_cat, long_cat]; decide))) dX19_mayHave_24 (hv_fit (by first | exact hu | omega))) (fun _ _ _ _ _ h => h.elim) (fun r8 y7 H locs hw hI => ?_)
      refine lv_iload_n E.1 E.2.1 dX19_mayHave_27 rfl (lv_at hl 1 rfl) ?_
      obtain ⟨k12, hB, hw⟩ := hw
      have hq := hw
      clear hw
      refine hv_callq (u := u4) (B1 := k12) hI (vx_runS (As := [.int (i1)]) (rest := [va_rf r8]) E (met_J13_valueOf l G (d + 1) hq) (va_cwS 1 E.2.2.2.2 (lw_S q1508 q540 q141 q541) rfl rfl rfl hs_J13_valueOf (rm_ok (by omega) (by decide))) (hv_preS hK hI) rfl rfl hl.1 rfl (lv_room (by first | rfl | decide | (simp [va_rf_cat, int_cat, long_cat]; done) | (simp [va_rf_cat, int_cat, long_cat]; decide))) dX19_mayHave_28 (hv_fit (by first | exact hB | omega))) (fun _ _ _ _ _ h => h.elim) (fun r11 y10 H locs hw hI => ?_)
      have hu := hB
      obtain ⟨a13, ea13, hw⟩ := hw
      revert hl hw; subst ea13; intro hl hw
      obtain ⟨⟨fs16, hrv⟩, hw⟩ := hw
      have hq := hw
      clear hw
      refine hv_callz (u := ((u4 + k12))) (B1 := 0) hI (vx_runV (As := [va_rf r11]) (rest := []) E (met_J2_contains l G (d) hq) (cwV 1 E.2.2.2.2 (lw_V q1509 q1510 q1511 q124 q1512) rfl rfl rfl hd_J2_contains (rm_ok (by omega) (by decide))) (hv_preV hK hI hrv rfl) rfl rfl hl.1 rfl (lv_room (by first | rfl | decide | (simp [va_rf_cat, int_cat, long_cat]; done) | (simp [va_rf_cat, int_cat, long_cat]; decide))) dX19_mayHave_31 (hv_fit (by first | exact hu | omega))) (fun _ _ _ _ _ h => h.elim) (fun b15 y14 H locs hw hI => ?_)
      refine lv_if_eq (tgt := 39) E.1 E.2.1 dX19_mayHave_34 (by decide) (fun c17 => ?_) (fun c17 => ?_)
      · replace hw := hw.1 (bi_z c17)
        obtain ⟨J18, hj35, hw⟩ := hw
        have jh19 : ∀ (y20 : HS) (u23 : Nat) (x21 : Int32) (x22 : Int32), J18 y20 u23 x21 x22 → ∀ (H : Heap) (locs : List Loc) (ls : Array Slot), HI G y0 y20 s H locs → lv_has ls 2 [] → W p l e (rmB (d + 5) B) s m args below meth c H locs u23 (20 * u23) (vx_MQ below (hQz G y0 post) (hX G y0 (fun _ _ _ => False)) args s B (20 * B) (HA y0)) (F0 m 61 ls [.int (x21), .int (x22)]) := by
          intro y20 u23 x21 x22 hw H locs ls hI hl
          replace hw := hj35 y20 u23 x21 x22 hw
          obtain ⟨hu, hw⟩ := hw
          refine lv_icmp_ge (tgt := 68) E.1 E.2.1 dX19_mayHave_61 (by decide) (fun c24 => ?_) (fun c24 => ?_)
          · replace hw := hw.1 (c24)
            refine lv_iconst (v := nI 0) E.1 E.2.1 dX19_mayHave_68 rfl ?_
            exact hv_iretz (b := false) E hr hlocks hI hu rfl hw dX19_mayHave_69
          · replace hw := hw.2 (c24)
            refine lv_iconst (v := nI 1) E.1 E.2.1 dX19_mayHave_64 rfl ?_
            refine lv_goto (tgt := 69) E.1 E.2.1 dX19_mayHave_65 (by decide) ?_
            exact hv_iretz (b := true) E hr hlocks hI hu rfl hw dX19_mayHave_69
        refine hv_aload_n (r := some a0) E.1 E.2.1 dX19_mayHave_39 rfl (lv_at hl 0 rfl) ?_
        refine lv_iload_n E.1 E.2.1 dX19_mayHave_40 rfl (lv_at hl 1 rfl) ?_
        obtain ⟨⟨fs27, hrv⟩, hw⟩ := hw
        have hq := hw
        clear hw
        refine hv_callq (u := ((u4 + k12))) (B1 := 0) hI (vx_runV (As := [.int (i1)]) (rest := []) E (met_X19_of l G (d + 2) hq) (cwV 1 E.2.2.2.2 (lw_V q1504 q1505 q1506 q163 q1507) rfl rfl rfl hd_X19_of (rm_ok (by omega) (by decide))) (hv_preV hK hI hrv rfl) rfl rfl hl.1 rfl (lv_room (by first | rfl | decide | (simp [va_rf_cat, int_cat, long_cat]; done) | (simp [va_rf_cat, int_cat, long_cat]; decide))) dX19_mayHave_41 (hv_fit (by first | exact hu | omega))) (fun _ _ _ _ _ h => h.elim) (fun r26 y25 H locs hw hI => ?_)
        obtain ⟨a28, ea28, hw⟩ := hw
        revert hl hw; subst ea28; intro hl hw
        obtain ⟨⟨fs31, hrv⟩, hw⟩ := hw
        have hq := hw
        clear hw
        refine hv_calli (u := ((u4 + k12))) (B1 := 0) hI (vx_runV (As := []) (rest := []) E (met_J2_size l G (d + 4) hq) (cwV 0 E.2.2.2.2 (lw_V q1558 q752 q753 q124 q754) rfl rfl rfl hd_J2_size (rm_ok (by omega) (by decide))) (hv_preV hK hI hrv rfl) rfl rfl hl.1 rfl (lv_room (by first | rfl | decide | (simp [va_rf_cat, int_cat, long_cat]; done) | (simp [va_rf_cat, int_cat, long_cat]; decide))) dX19_mayHave_44 (hv_fit (by first | exact hu | omega))) (fun _ _ _ _ _ h => h.elim) (fun x30 y29 H locs hw hI => ?_)
        refine lv_iload_n E.1 E.2.1 dX19_mayHave_47 rfl (lv_at hl 1 rfl) ?_
        have hq := hw
        clear hw
        refine hv_callz (u := ((u4 + k12))) (B1 := 0) hI (vx_runSN (As := [.int (i1)]) (rest := [.int (x30)]) E (met_X1_isDiagnosis l G (d + 3) hq) ⟨va_cnB 1 E.2.2.2.2 (lw_meth q980) rfl rfl rfl (hK.2.2.2.2.1 _ q1500 rfl) (E.2.2.2.2 _ q121) hs_X1_isDiagnosis (rm_ok (by omega) (by decide)), E.2.2.2.2 _ q979, trivial⟩ (hv_preS hK hI) rfl rfl hl.1 rfl (lv_room (by first | rfl | decide | (simp [va_rf_cat, int_cat, long_cat]; done) | (simp [va_rf_cat, int_cat, long_cat]; decide))) dX19_mayHave_48 (hv_fit (by first | exact hu | omega))) (fun _ _ _ _ _ h => h.elim) (fun b33 y32 H locs hw hI => ?_)
        refine lv_if_eq (tgt := 59) E.1 E.2.1 dX19_mayHave_51 (by decide) (fun c34 => ?_) (fun c34 => ?_)
        · replace hw := hw.1 (bi_z c34)
          refine lv_bipush (v := nI 6) E.1 E.2.1 dX19_mayHave_59 rfl ?_
          exact jh19 _ _ _ _ hw _ _ _ hI (lv_sub hl [] rfl)
        · replace hw := hw.2 (bi_n c34)
          refine lv_bipush (v := nI 8) E.1 E.2.1 dX19_mayHave_54 rfl ?_
          refine lv_goto (tgt := 61) E.1 E.2.1 dX19_mayHave_56 (by decide) ?_
          exact jh19 _ _ _ _ hw _ _ _ hI (lv_sub hl [] rfl)
      · replace hw := hw.2 (bi_n c17)
        refine lv_iconst (v := nI 0) E.1 E.2.1 dX19_mayHave_37 rfl ?_
        exact hv_iretz (b := false) E hr hlocks hI hu rfl hw dX19_mayHave_38
  refine lv_iload_n E.1 E.2.1 dX19_mayHave_0 rfl (lv_at hl 1 rfl) ?_
  have hq := hw
  clear hw
  refine hv_callz (u := 0) (B1 := 0) hI (vx_runSN (As := [.int (i1)]) (rest := []) E (met_X1_isDiagnosis l G (d + 3) hq) ⟨va_cnB 1 E.2.2.2.2 (lw_meth q980) rfl rfl rfl (hK.2.2.2.2.1 _ q1500 rfl) (E.2.2.2.2 _ q121) hs_X1_isDiagnosis (rm_ok (by omega) (by decide)), E.2.2.2.2 _ q979, trivial⟩ (hv_preS hK hI) rfl rfl hl.1 rfl (lv_room (by first | rfl | decide | (simp [va_rf_cat, int_cat, long_cat]; done) | (simp [va_rf_cat, int_cat, long_cat]; decide))) dX19_mayHave_1 (hv_fit (by first | exact hu | omega))) (fun _ _ _ _ _ h => h.elim) (fun b37 y36 H locs hw hI => ?_)
  refine lv_if_ne (tgt := 14) E.1 E.2.1 dX19_mayHave_4 (by decide) (fun c38 => ?_) (fun c38 => ?_)
  · replace hw := hw.1 (bi_n c38)
    exact jh2 _ _ hw _ _ _ hI (lv_sub hl [0, 1] rfl)
  · replace hw := hw.2 (bi_z c38)
    refine lv_iload_n E.1 E.2.1 dX19_mayHave_7 rfl (lv_at hl 1 rfl) ?_
    have hq := hw
    clear hw
    refine hv_callz (u := 0) (B1 := 0) hI (vx_runSN (As := [.int (i1)]) (rest := []) E (met_X1_isProcedure l G (d + 3) hq) ⟨va_cnB 1 E.2.2.2.2 (lw_meth q1503) rfl rfl rfl (hK.2.2.2.2.1 _ q1501 rfl) (E.2.2.2.2 _ q121) hs_X1_isProcedure (rm_ok (by omega) (by decide)), E.2.2.2.2 _ q1502, trivial⟩ (hv_preS hK hI) rfl rfl hl.1 rfl (lv_room (by first | rfl | decide | (simp [va_rf_cat, int_cat, long_cat]; done) | (simp [va_rf_cat, int_cat, long_cat]; decide))) dX19_mayHave_8 (hv_fit (by first | exact hu | omega))) (fun _ _ _ _ _ h => h.elim) (fun b40 y39 H locs hw hI => ?_)
    refine lv_if_eq (tgt := 37) E.1 E.2.1 dX19_mayHave_11 (by decide) (fun c41 => ?_) (fun c41 => ?_)
    · replace hw := hw.1 (bi_z c41)
      refine lv_iconst (v := nI 0) E.1 E.2.1 dX19_mayHave_37 rfl ?_
      exact hv_iretz (b := false) E hr hlocks hI hu rfl hw dX19_mayHave_38
    · replace hw := hw.2 (bi_n c41)
      exact jh2 _ _ hw _ _ _ hI (lv_sub hl [0, 1] rfl)
/-- CaseGrouper$Stay.takes(I)V -/
def wp_X19_takes (G : GP) (B : Nat) (post : HS → Prop) (y0 : HS) (a0 : Nat) (i1 : Int32) : Prop := (∃ fs3, rd G y0 a0 (ob 17 fs3)) ∧ wp_X19_of G (fun r2 y1 => ∃ I4 : Nat → HS → Nat → Int32 → Prop, (∃ n11, I4 n11 y1 0 (nI 0)) ∧ ∀ (n5 : Nat) (y6 : HS) (u10 : Nat) (x9 : Int32), I4 n5 y6 u10 x9 → u10 ≤ B ∧ ∃ J12 : HS → Nat → Int32 → Prop, (∀ (y14 : HS) (u16 : Nat) (x15 : Int32), J12 y14 u16 x15 → u16 ≤ B ∧ ∃ k19, u16 + k19 ≤ B ∧ wp_J13_valueOf G k19 (fun r18 y17 => ∃ a20, r2 = some a20 ∧ (∃ fs22, rd G y17 a20 (ob 18 fs22)) ∧ ∃ k23, (u16 + k19) + k23 ≤ B ∧ wp_J2_add_3 G k23 (fun y21 => post y21) y17 a20 x15 r18) y14 i1) ∧ (∃ a24, r2 = some a24 ∧ (∃ fs27, rd G y6 a24 (ob 18 fs27)) ∧ wp_J2_size G (fun x26 y25 => (x26 ≤ x9 → J12 y25 u10 x9) ∧ (¬ x26 ≤ x9 → (∃ fs31, rd G y25 a24 (ob 18 fs31)) ∧ wp_J2_get G (fun r30 y29 => isOf G y29 r30 21 ∧ ∃ a32, r30 = some a32 ∧ (∃ fs35, rd G y29 a32 (ob 21 fs35)) ∧ wp_J13_intValue G (fun x34 y33 => (i1 ≤ x34 → J12 y33 u10 x9) ∧ (¬ i1 ≤ x34 → ∃ n37, n37 < n5 ∧ I4 n37 y33 u10 (x9 + nI 1))) y29 a32) y25 a24 x9)) y6 a24)) y0 a0 i1
theorem hs_X19_takes : yX19_takes.cls ≠ "java/lang/invoke/MethodHandle" ∧ yX19_takes.cls ≠ "java/lang/invoke/VarHandle" ∧ (parseMethodDescriptor yX19_takes.desc).map (fun d => d.parameters.length) = some 1 := by decide +kernel
theorem hd_X19_takes : yX19_takes.cls = RX19 ∧ yX19_takes.cls ≠ "java/lang/invoke/MethodHandle" ∧ yX19_takes.cls ≠ "java/lang/invoke/VarHandle" ∧ (parseMethodDescriptor yX19_takes.desc).map (fun d => d.parameters.length) = some 1 := by decide +kernel
set_option maxHeartbeats 4000000 in
theorem met_X19_takes (l : Launch) (G : GP) (d : Nat) {B : Nat} {post : HS → Prop} {y0 : HS} {a0 : Nat} {i1 : Int32} (hw : wp_X19_takes G B post y0 a0 i1) : vx_Met l yX19_takes (ws_ yX19_takes cX19_takes 4 none) (rmB (d + 6) B) (hPc G y0 [va_rf (some a0), .int (i1)]) (hQv G y0 post) (hX G y0 (fun _ _ _ => False)) B (20 * B) (HA y0) := by
  unfold wp_X19_takes at hw
  refine hv_met (own := RX19) (by decide) rfl (Nat.le_of_ble_eq_true rfl) ?_
  intro p e s m args below meth c ls E hr hlocks hnm hE hK hI hl
  replace hl : lv_has ls 4 [(0, va_rf (some a0)), (1, .int (i1))] := hl
  have hu : 0 ≤ B := Nat.zero_le _
  refine hv_aload_n (r := some a0) E.1 E.2.1 dX19_takes_0 rfl (lv_at hl 0 rfl) ?_
  refine lv_iload_n E.1 E.2.1 dX19_takes_1 rfl (lv_at hl 1 rfl) ?_
  obtain ⟨⟨fs3, hrv⟩, hw⟩ := hw
  have hq := hw
  clear hw
  refine hv_callq (u := 0) (B1 := 0) hI (vx_runV (As := [.int (i1)]) (rest := []) E (met_X19_of l G (d + 3) hq) (cwV 1 E.2.2.2.2 (lw_V q1504 q1505 q1506 q163 q1507) rfl rfl rfl hd_X19_of (rm_ok (by omega) (by decide))) (hv_preV hK hI hrv rfl) rfl rfl hl.1 rfl (lv_room (by first | rfl | decide | (simp [va_rf_cat, int_cat, long_cat]; done) | (simp [va_rf_cat, int_cat, long_cat]; decide))) dX19_takes_2 (hv_fit (by first | exact hu | omega))) (fun _ _ _ _ _ h => h.elim) (fun r2 y1 H locs hw hI => ?_)
  refine hv_astore_n (r := r2) (lv' := [(2, va_rf r2), (0, va_rf (some a0)), (1, .int (i1))]) E.1 E.2.1 dX19_takes_5 rfl hl (Nat.le_of_ble_eq_true rfl) (by first | rfl | decide | (simp [va_rf_cat, int_cat, long_cat]; done) | (simp [va_rf_cat, int_cat, long_cat]; decide)) (fun ls hl => ?_)
  refine lv_iconst (v := nI 0) E.1 E.2.1 dX19_takes_6 rfl ?_
  refine lv_istore_n (lv' := [(3, .int (nI 0)), (2, va_rf r2), (0, va_rf (some a0)), (1, .int (i1))]) E.1 E.2.1 dX19_takes_7 rfl hl (Nat.le_of_ble_eq_true rfl) (by first | rfl | decide | (simp [va_rf_cat, int_cat, long_cat]; done) | (simp [va_rf_cat, int_cat, long_cat]; decide)) (fun ls hl => ?_)
  obtain ⟨I4, ⟨n11, hi40⟩, hb39⟩ := hw
  have L8 : ∀ (n5 : Nat) (y6 : HS) (u10 : Nat) (x9 : Int32), I4 n5 y6 u10 x9 → ∀ (H : Heap) (locs : List Loc) (ls : Array Slot), HI G y0 y6 s H locs → lv_has ls 4 [(1, .int (i1)), (2, va_rf r2), (3, .int (x9))] → W p l e (rmB (d + 6) B) s m args below meth c H locs u10 (20 * u10) (vx_MQ below (hQv G y0 post) (hX G y0 (fun _ _ _ => False)) args s B (20 * B) (HA y0)) (F0 m 8 ls []) := by
    intro n5
    induction n5 using Nat.strongRecOn with
    | _ n5 ih7 =>
      intro y6 u10 x9 hw H locs ls hI hl
      replace hw := hb39 n5 y6 u10 x9 hw
      obtain ⟨hu, hw⟩ := hw
      obtain ⟨J12, hj38, hw⟩ := hw
      have jh13 : ∀ (y14 : HS) (u16 : Nat) (x15 : Int32), J12 y14 u16 x15 → ∀ (H : Heap) (locs : List Loc) (ls : Array Slot), HI G y0 y14 s H locs → lv_has ls 4 [(1, .int (i1)), (2, va_rf r2), (3, .int (x15))] → W p l e (rmB (d + 6) B) s m args below meth c H locs u16 (20 * u16) (vx_MQ below (hQv G y0 post) (hX G y0 (fun _ _ _ => False)) args s B (20 * B) (HA y0)) (F0 m 37 ls []) := by
        intro y14 u16 x15 hw H locs ls hI hl
        replace hw := hj38 y14 u16 x15 hw
        obtain ⟨hu, hw⟩ := hw
        refine hv_aload_n (r := r2) E.1 E.2.1 dX19_takes_37 rfl (lv_at hl 1 rfl) ?_
        refine lv_iload_n E.1 E.2.1 dX19_takes_38 rfl (lv_at hl 2 rfl) ?_
        refine lv_iload_n E.1 E.2.1 dX19_takes_39 rfl (lv_at hl 0 rfl) ?_
        obtain ⟨k19, hB, hw⟩ := hw
        have hq := hw
        clear hw
        refine hv_callq (u := u16) (B1 := k19) hI (vx_runS (As := [.int (i1)]) (rest := [.int (x15), va_rf r2]) E (met_J13_valueOf l G (d + 2) hq) (va_cwS 1 E.2.2.2.2 (lw_S q1508 q540 q141 q541) rfl rfl rfl hs_J13_valueOf (rm_ok (by omega) (by decide))) (hv_preS hK hI) rfl rfl hl.1 rfl (lv_room (by first | rfl | decide | (simp [va_rf_cat, int_cat, long_cat]; done) | (simp [va_rf_cat, int_cat, long_cat]; decide))) dX19_takes_40 (hv_fit (by first | exact hB | omega))) (fun _ _ _ _ _ h => h.elim) (fun r18 y17 H locs hw hI => ?_)
        have hu := hB
        obtain ⟨a20, ea20, hw⟩ := hw
        revert hl hw; subst ea20; intro hl hw
        obtain ⟨⟨fs22, hrv⟩, hw⟩ := hw
        obtain ⟨k23, hB, hw⟩ := hw
        have hq := hw
        clear hw
        refine hv_callv (u := ((u16 + k19))) (B1 := k23) hI (vx_runV (As := [.int (x15), va_rf r18]) (rest := []) E (met_J2_add_3 l G (d) hq) (cwV 2 E.2.2.2.2 (lw_V q1566 q1567 q1568 q124 q1569) rfl rfl rfl hd_J2_add_3 (rm_ok (by omega) (by decide))) (hv_preV hK hI hrv rfl) rfl rfl hl.1 rfl (lv_room (by first | rfl | decide | (simp [va_rf_cat, int_cat, long_cat]; done) | (simp [va_rf_cat, int_cat, long_cat]; decide))) dX19_takes_43 (hv_fit (by first | exact hB | omega))) (fun _ _ _ _ _ h => h.elim) (fun y21 H locs hw hI => ?_)
        have hu := hB
        exact hv_vret E hr hlocks hI hu hw dX19_takes_46
      refine lv_iload_n E.1 E.2.1 dX19_takes_8 rfl (lv_at hl 2 rfl) ?_
      refine hv_aload_n (r := r2) E.1 E.2.1 dX19_takes_9 rfl (lv_at hl 1 rfl) ?_
      obtain ⟨a24, ea24, hw⟩ := hw
      revert hl hw; subst ea24; intro hl hw
      obtain ⟨⟨fs27, hrv⟩, hw⟩ := hw
      have hq := hw
      clear hw
      refine hv_calli (u := u10) (B1 := 0) hI (vx_runV (As := []) (rest := [.int (x9)]) E (met_J2_size l G (d + 5) hq) (cwV 0 E.2.2.2.2 (lw_V q1558 q752 q753 q124 q754) rfl rfl rfl hd_J2_size (rm_ok (by omega) (by decide))) (hv_preV hK hI hrv rfl) rfl rfl hl.1 rfl (lv_room (by first | rfl | decide | (simp [va_rf_cat, int_cat, long_cat]; done) | (simp [va_rf_cat, int_cat, long_cat]; decide))) dX19_takes_10 (hv_fit (by first | exact hu | omega))) (fun _ _ _ _ _ h => h.elim) (fun x26 y25 H locs hw hI => ?_)
      refine lv_icmp_ge (tgt := 37) E.1 E.2.1 dX19_takes_13 (by decide) (fun c28 => ?_) (fun c28 => ?_)
      · replace hw := hw.1 (c28)
        exact jh13 _ _ _ hw _ _ _ hI (lv_sub hl [0, 1, 2] rfl)
      · replace hw := hw.2 (c28)
        refine hv_aload_n (r := some a24) E.1 E.2.1 dX19_takes_16 rfl (lv_at hl 1 rfl) ?_
        refine lv_iload_n E.1 E.2.1 dX19_takes_17 rfl (lv_at hl 2 rfl) ?_
        obtain ⟨⟨fs31, hrv⟩, hw⟩ := hw
        have hq := hw
        clear hw
        refine hv_callq (u := u10) (B1 := 0) hI (vx_runV (As := [.int (x9)]) (rest := []) E (met_J2_get l G (d + 3) hq) (cwV 1 E.2.2.2.2 (lw_V q1563 q785 q786 q124 q787) rfl rfl rfl hd_J2_get (rm_ok (by omega) (by decide))) (hv_preV hK hI hrv rfl) rfl rfl hl.1 rfl (lv_room (by first | rfl | decide | (simp [va_rf_cat, int_cat, long_cat]; done) | (simp [va_rf_cat, int_cat, long_cat]; decide))) dX19_takes_18 (hv_fit (by first | exact hu | omega))) (fun _ _ _ _ _ h => h.elim) (fun r30 y29 H locs hw hI => ?_)
        obtain ⟨hof, hw⟩ := hw
        refine hv_castC (cn := 21) E hK hI (by decide) q1564 hof dX19_takes_21 ?_
        obtain ⟨a32, ea32, hw⟩ := hw
        revert hl hw; subst ea32; intro hl hw
        obtain ⟨⟨fs35, hrv⟩, hw⟩ := hw
        have hq := hw
        clear hw
        refine hv_calli (u := u10) (B1 := 0) hI (vx_runV (As := []) (rest := []) E (met_J13_intValue l G (d + 5) hq) (cwV 0 E.2.2.2.2 (lw_V q1565 q993 q994 q141 q995) rfl rfl rfl hd_J13_intValue (rm_ok (by omega) (by decide))) (hv_preV hK hI hrv rfl) rfl rfl hl.1 rfl (lv_room (by first | rfl | decide | (simp [va_rf_cat, int_cat, long_cat]; done) | (simp [va_rf_cat, int_cat, long_cat]; decide))) dX19_takes_24 (hv_fit (by first | exact hu | omega))) (fun _ _ _ _ _ h => h.elim) (fun x34 y33 H locs hw hI => ?_)
        refine lv_iload_n E.1 E.2.1 dX19_takes_27 rfl (lv_at hl 0 rfl) ?_
        refine lv_icmp_ge (tgt := 37) E.1 E.2.1 dX19_takes_28 (by decide) (fun c36 => ?_) (fun c36 => ?_)
        · replace hw := hw.1 (c36)
          exact jh13 _ _ _ hw _ _ _ hI (lv_sub hl [0, 1, 2] rfl)
        · replace hw := hw.2 (c36)
          refine lv_iinc (k := 2) (v := x9 + nI 1) (lv' := [(3, .int (x9 + nI 1)), (1, .int (i1)), (2, va_rf (some a24))]) E.1 E.2.1 dX19_takes_31 hl rfl rfl (Nat.le_of_ble_eq_true rfl) (by first | rfl | decide | (simp [va_rf_cat, int_cat, long_cat]; done) | (simp [va_rf_cat, int_cat, long_cat]; decide)) (fun ls hl => ?_)
          refine lv_goto (tgt := 8) E.1 E.2.1 dX19_takes_34 (by decide) ?_
          obtain ⟨n37, hnn37, hin37⟩ := hw
          exact ih7 n37 hnn37 _ _ _ hin37 _ _ _ hI (lv_sub hl [1, 2, 0] rfl)
  exact L8 n11 _ _ _ hi40 _ _ _ hI (lv_sub hl [3, 1, 0] rfl)
/-- CaseGrouper$Stay.loses(I)Z -/
def wp_X19_loses (G : GP) (B : Nat) (post : Bool → HS → Prop) (y0 : HS) (a0 : Nat) (i1 : Int32) : Prop := (∃ fs3, rd G y0 a0 (ob 17 fs3)) ∧ wp_X19_of G (fun r2 y1 => ∃ k6, 0 + k6 ≤ B ∧ wp_J13_valueOf G k6 (fun r5 y4 => ∃ a7, r2 = some a7 ∧ (∃ fs10, rd G y4 a7 (ob 18 fs10)) ∧ wp_J2_remove G (fun b9 y8 => post b9 y8) y4 a7 r5) y1 i1) y0 a0 i1
theorem hs_X19_loses : yX19_loses.cls ≠ "java/lang/invoke/MethodHandle" ∧ yX19_loses.cls ≠ "java/lang/invoke/VarHandle" ∧ (parseMethodDescriptor yX19_loses.desc).map (fun d => d.parameters.length) = some 1 := by decide +kernel
theorem hd_X19_loses : yX19_loses.cls = RX19 ∧ yX19_loses.cls ≠ "java/lang/invoke/MethodHandle" ∧ yX19_loses.cls ≠ "java/lang/invoke/VarHandle" ∧ (parseMethodDescriptor yX19_loses.desc).map (fun d => d.parameters.length) = some 1 := by decide +kernel
set_option maxHeartbeats 4000000 in
theorem met_X19_loses (l : Launch) (G : GP) (d : Nat) {B : Nat} {post : Bool → HS → Prop} {y0 : HS} {a0 : Nat} {i1 : Int32} (hw : wp_X19_loses G B post y0 a0 i1) : vx_Met l yX19_loses (ws_ yX19_loses cX19_loses 2 (some .boolean)) (rmB (d + 4) B) (hPc G y0 [va_rf (some a0), .int (i1)]) (hQz G y0 post) (hX G y0 (fun _ _ _ => False)) B (20 * B) (HA y0) := by
  unfold wp_X19_loses at hw
  refine hv_met (own := RX19) (by decide) rfl (Nat.le_of_ble_eq_true rfl) ?_
  intro p e s m args below meth c ls E hr hlocks hnm hE hK hI hl
  replace hl : lv_has ls 2 [(0, va_rf (some a0)), (1, .int (i1))] := hl
  have hu : 0 ≤ B := Nat.zero_le _
  refine hv_aload_n (r := some a0) E.1 E.2.1 dX19_loses_0 rfl (lv_at hl 0 rfl) ?_
  refine lv_iload_n E.1 E.2.1 dX19_loses_1 rfl (lv_at hl 1 rfl) ?_
  obtain ⟨⟨fs3, hrv⟩, hw⟩ := hw
  have hq := hw
  clear hw
  refine hv_callq (u := 0) (B1 := 0) hI (vx_runV (As := [.int (i1)]) (rest := []) E (met_X19_of l G (d + 1) hq) (cwV 1 E.2.2.2.2 (lw_V q1504 q1505 q1506 q163 q1507) rfl rfl rfl hd_X19_of (rm_ok (by omega) (by decide))) (hv_preV hK hI hrv rfl) rfl rfl hl.1 rfl (lv_room (by first | rfl | decide | (simp [va_rf_cat, int_cat, long_cat]; done) | (simp [va_rf_cat, int_cat, long_cat]; decide))) dX19_loses_2 (hv_fit (by first | exact hu | omega))) (fun _ _ _ _ _ h => h.elim) (fun r2 y1 H locs hw hI => ?_)
  refine lv_iload_n E.1 E.2.1 dX19_loses_5 rfl (lv_at hl 1 rfl) ?_
  obtain ⟨k6, hB, hw⟩ := hw
  have hq := hw
  clear hw
  refine hv_callq (u := 0) (B1 := k6) hI (vx_runS (As := [.int (i1)]) (rest := [va_rf r2]) E (met_J13_valueOf l G (d) hq) (va_cwS 1 E.2.2.2.2 (lw_S q1508 q540 q141 q541) rfl rfl rfl hs_J13_valueOf (rm_ok (by omega) (by decide))) (hv_preS hK hI) rfl rfl hl.1 rfl (lv_room (by first | rfl | decide | (simp [va_rf_cat, int_cat, long_cat]; done) | (simp [va_rf_cat, int_cat, long_cat]; decide))) dX19_loses_6 (hv_fit (by first | exact hB | omega))) (fun _ _ _ _ _ h => h.elim) (fun r5 y4 H locs hw hI => ?_)
  have hu := hB
  obtain ⟨a7, ea7, hw⟩ := hw
  revert hl hw; subst ea7; intro hl hw
  obtain ⟨⟨fs10, hrv⟩, hw⟩ := hw
  have hq := hw
  clear hw
  refine hv_callz (u := ((0 + k6))) (B1 := 0) hI (vx_runV (As := [va_rf r5]) (rest := []) E (met_J2_remove l G (d + 1) hq) (cwV 1 E.2.2.2.2 (lw_V q1584 q1585 q1586 q124 q1587) rfl rfl rfl hd_J2_remove (rm_ok (by omega) (by decide))) (hv_preV hK hI hrv rfl) rfl rfl hl.1 rfl (lv_room (by first | rfl | decide | (simp [va_rf_cat, int_cat, long_cat]; done) | (simp [va_rf_cat, int_cat, long_cat]; decide))) dX19_loses_9 (hv_fit (by first | exact hu | omega))) (fun _ _ _ _ _ h => h.elim) (fun b9 y8 H locs hw hI => ?_)
  exact hv_iretz (b := b9) E hr hlocks hI hu rfl hw dX19_loses_12
/-- CaseGrouper$Stay.codes()I -/
def wp_X19_codes (G : GP) (post : Int32 → HS → Prop) (y0 : HS) (a0 : Nat) : Prop := ∃ f1, fR y0 a0 17 3 f1 ∧ ∃ a2, f1 = some a2 ∧ (∃ fs5, rd G y0 a2 (ob 18 fs5)) ∧ wp_J2_size G (fun x4 y3 => ∃ f6, fR y3 a0 17 4 f6 ∧ ∃ a7, f6 = some a7 ∧ (∃ fs10, rd G y3 a7 (ob 18 fs10)) ∧ wp_J2_size G (fun x9 y8 => post (x4 + x9) y8) y3 a7) y0 a2
theorem hs_X19_codes : yX19_codes.cls ≠ "java/lang/invoke/MethodHandle" ∧ yX19_codes.cls ≠ "java/lang/invoke/VarHandle" ∧ (parseMethodDescriptor yX19_codes.desc).map (fun d => d.parameters.length) = some 0 := by decide +kernel
theorem hd_X19_codes : yX19_codes.cls = RX19 ∧ yX19_codes.cls ≠ "java/lang/invoke/MethodHandle" ∧ yX19_codes.cls ≠ "java/lang/invoke/VarHandle" ∧ (parseMethodDescriptor yX19_codes.desc).map (fun d => d.parameters.length) = some 0 := by decide +kernel
set_option maxHeartbeats 4000000 in
theorem met_X19_codes (l : Launch) (G : GP) (d : Nat) {post : Int32 → HS → Prop} {y0 : HS} {a0 : Nat} (hw : wp_X19_codes G post y0 a0) : vx_Met l yX19_codes (ws_ yX19_codes cX19_codes 1 (some .int)) (rmB (d + 1) 0) (hPc G y0 [va_rf (some a0)]) (hQi G y0 post) (hX G y0 (fun _ _ _ => False)) 0 (20 * 0) (HA y0) := by
  unfold wp_X19_codes at hw
  refine hv_met (own := RX19) (by decide) rfl (Nat.le_of_ble_eq_true rfl) ?_
  intro p e s m args below meth c ls E hr hlocks hnm hE hK hI hl
  replace hl : lv_has ls 1 [(0, va_rf (some a0))] := hl
  refine hv_aload_n (r := some a0) E.1 E.2.1 dX19_codes_0 rfl (lv_at hl 0 rfl) ?_
  obtain ⟨f1, ⟨fs, hfs, hfk⟩, hw⟩ := hw
  refine hv_get (v := va_rf f1) E hK hI ciX19 3 (Nat.le_of_ble_eq_true rfl) q1469 (fun _ h => h) (Or.inl hfs) hfk dX19_codes_1 ?_
  obtain ⟨a2, ea2, hw⟩ := hw
  revert hl hw; subst ea2; intro hl hw
  obtain ⟨⟨fs5, hrv⟩, hw⟩ := hw
  have hq := hw
  clear hw
  refine hv_calli (u := 0) (B1 := 0) hI (vx_runV (As := []) (rest := []) E (met_J2_size l G (d) hq) (cwV 0 E.2.2.2.2 (lw_V q1558 q752 q753 q124 q754) rfl rfl rfl hd_J2_size (rm_ok (by omega) (by decide))) (hv_preV hK hI hrv rfl) rfl rfl hl.1 rfl (lv_room (by first | rfl | decide | (simp [va_rf_cat, int_cat, long_cat]; done) | (simp [va_rf_cat, int_cat, long_cat]; decide))) dX19_codes_4 (hv_fit (by first | exact (Nat.le_refl 0) | omega))) (fun _ _ _ _ _ h => h.elim) (fun x4 y3 H locs hw hI => ?_)
  refine hv_aload_n (r := some a0) E.1 E.2.1 dX19_codes_7 rfl (lv_at hl 0 rfl) ?_
  obtain ⟨f6, ⟨fs, hfs, hfk⟩, hw⟩ := hw
  refine hv_get (v := va_rf f6) E hK hI ciX19 4 (Nat.le_of_ble_eq_true rfl) q1472 (fun _ h => h) (Or.inl hfs) hfk dX19_codes_8 ?_
  obtain ⟨a7, ea7, hw⟩ := hw
  revert hl hw; subst ea7; intro hl hw
  obtain ⟨⟨fs10, hrv⟩, hw⟩ := hw
  have hq := hw
  clear hw
  refine hv_calli (u := 0) (B1 := 0) hI (vx_runV (As := []) (rest := [.int (x4)]) E (met_J2_size l G (d) hq) (cwV 0 E.2.2.2.2 (lw_V q1558 q752 q753 q124 q754) rfl rfl rfl hd_J2_size (rm_ok (by omega) (by decide))) (hv_preV hK hI hrv rfl) rfl rfl hl.1 rfl (lv_room (by first | rfl | decide | (simp [va_rf_cat, int_cat, long_cat]; done) | (simp [va_rf_cat, int_cat, long_cat]; decide))) dX19_codes_11 (hv_fit (by first | exact (Nat.le_refl 0) | omega))) (fun _ _ _ _ _ h => h.elim) (fun x9 y8 H locs hw hI => ?_)
  refine lv_iadd E.1 E.2.1 dX19_codes_14 ?_
  exact hv_ireti E hr hlocks hI (Nat.le_refl 0) hw dX19_codes_15
/-- CaseGrouper$Stay.codeAt(I)I -/
def wp_X19_codeAt (G : GP) (post : Int32 → HS → Prop) (y0 : HS) (a0 : Nat) (i1 : Int32) : Prop := ∃ J1 : HS → (Option Nat) → Prop, (∀ (y3 : HS) (r4 : Option Nat), J1 y3 r4 → ∃ a5, r4 = some a5 ∧ (∃ fs8, rd G y3 a5 (ob 21 fs8)) ∧ wp_J13_intValue G (fun x7 y6 => post x7 y6) y3 a5) ∧ (∃ f9, fR y0 a0 17 3 f9 ∧ ∃ a10, f9 = some a10 ∧ (∃ fs13, rd G y0 a10 (ob 18 fs13)) ∧ wp_J2_size G (fun x12 y11 => (x12 ≤ i1 → ∃ f15, fR y11 a0 17 4 f15 ∧ ∃ f16, fR y11 a0 17 3 f16 ∧ ∃ a17, f16 = some a17 ∧ (∃ fs20, rd G y11 a17 (ob 18 fs20)) ∧ wp_J2_size G (fun x19 y18 => ∃ a21, f15 = some a21 ∧ (∃ fs24, rd G y18 a21 (ob 18 fs24)) ∧ wp_J2_get G (fun r23 y22 => isOf G y22 r23 21 ∧ J1 y22 r23) y18 a21 (i1 - x19)) y11 a17) ∧ (¬ x12 ≤ i1 → ∃ f25, fR y11 a0 17 3 f25 ∧ ∃ a26, f25 = some a26 ∧ (∃ fs29, rd G y11 a26 (ob 18 fs29)) ∧ wp_J2_get G (fun r28 y27 => isOf G y27 r28 21 ∧ J1 y27 r28) y11 a26 i1)) y0 a10)
theorem hs_X19_codeAt : yX19_codeAt.cls ≠ "java/lang/invoke/MethodHandle" ∧ yX19_codeAt.cls ≠ "java/lang/invoke/VarHandle" ∧ (parseMethodDescriptor yX19_codeAt.desc).map (fun d => d.parameters.length) = some 1 := by decide +kernel
theorem hd_X19_codeAt : yX19_codeAt.cls = RX19 ∧ yX19_codeAt.cls ≠ "java/lang/invoke/MethodHandle" ∧ yX19_codeAt.cls ≠ "java/lang/invoke/VarHandle" ∧ (parseMethodDescriptor yX19_codeAt.desc).map (fun d => d.parameters.length) = some 1 := by decide +kernel
set_option maxHeartbeats 4000000 in
theorem met_X19_codeAt (l : Launch) (G : GP) (d : Nat) {post : Int32 → HS → Prop} {y0 : HS} {a0 : Nat} {i1 : Int32} (hw : wp_X19_codeAt G post y0 a0 i1) : vx_Met l yX19_codeAt (ws_ yX19_codeAt cX19_codeAt 2 (some .int)) (rmB (d + 3) 0) (hPc G y0 [va_rf (some a0), .int (i1)]) (hQi G y0 post) (hX G y0 (fun _ _ _ => False)) 0 (20 * 0) (HA y0) := by
  unfold wp_X19_codeAt at hw
  refine hv_met (own := RX19) (by decide) rfl (Nat.le_of_ble_eq_true rfl) ?_
  intro p e s m args below meth c ls E hr hlocks hnm hE hK hI hl
  replace hl : lv_has ls 2 [(0, va_rf (some a0)), (1, .int (i1))] := hl
  obtain ⟨J1, hj30, hw⟩ := hw
  have jh2 : ∀ (y3 : HS) (r4 : Option Nat), J1 y3 r4 → ∀ (H : Heap) (locs : List Loc) (ls : Array Slot), HI G y0 y3 s H locs → lv_has ls 2 [] → W p l e (rmB (d + 3) 0) s m args below meth c H locs 0 (20 * 0) (vx_MQ below (hQi G y0 post) (hX G y0 (fun _ _ _ => False)) args s 0 (20 * 0) (HA y0)) (F0 m 44 ls [va_rf r4]) := by
    intro y3 r4 hw H locs ls hI hl
    replace hw := hj30 y3 r4 hw
    obtain ⟨a5, ea5, hw⟩ := hw
    revert hl hw; subst ea5; intro hl hw
    obtain ⟨⟨fs8, hrv⟩, hw⟩ := hw
    have hq := hw
    clear hw
    refine hv_calli (u := 0) (B1 := 0) hI (vx_runV (As := []) (rest := []) E (met_J13_intValue l G (d + 2) hq) (cwV 0 E.2.2.2.2 (lw_V q1565 q993 q994 q141 q995) rfl rfl rfl hd_J13_intValue (rm_ok (by omega) (by decide))) (hv_preV hK hI hrv rfl) rfl rfl hl.1 rfl (lv_room (by first | rfl | decide | (simp [va_rf_cat, int_cat, long_cat]; done) | (simp [va_rf_cat, int_cat, long_cat]; decide))) dX19_codeAt_44 (hv_fit (by first | exact (Nat.le_refl 0) | omega))) (fun _ _ _ _ _ h => h.elim) (fun x7 y6 H locs hw hI => ?_)
    exact hv_ireti E hr hlocks hI (Nat.le_refl 0) hw dX19_codeAt_47
  refine lv_iload_n E.1 E.2.1 dX19_codeAt_0 rfl (lv_at hl 1 rfl) ?_
  refine hv_aload_n (r := some a0) E.1 E.2.1 dX19_codeAt_1 rfl (lv_at hl 0 rfl) ?_
  obtain ⟨f9, ⟨fs, hfs, hfk⟩, hw⟩ := hw
  refine hv_get (v := va_rf f9) E hK hI ciX19 3 (Nat.le_of_ble_eq_true rfl) q1469 (fun _ h => h) (Or.inl hfs) hfk dX19_codeAt_2 ?_
  obtain ⟨a10, ea10, hw⟩ := hw
  revert hl hw; subst ea10; intro hl hw
  obtain ⟨⟨fs13, hrv⟩, hw⟩ := hw
  have hq := hw
  clear hw
  refine hv_calli (u := 0) (B1 := 0) hI (vx_runV (As := []) (rest := [.int (i1)]) E (met_J2_size l G (d + 2) hq) (cwV 0 E.2.2.2.2 (lw_V q1558 q752 q753 q124 q754) rfl rfl rfl hd_J2_size (rm_ok (by omega) (by decide))) (hv_preV hK hI hrv rfl) rfl rfl hl.1 rfl (lv_room (by first | rfl | decide | (simp [va_rf_cat, int_cat, long_cat]; done) | (simp [va_rf_cat, int_cat, long_cat]; decide))) dX19_codeAt_5 (hv_fit (by first | exact (Nat.le_refl 0) | omega))) (fun _ _ _ _ _ h => h.elim) (fun x12 y11 H locs hw hI => ?_)
  refine lv_icmp_ge (tgt := 25) E.1 E.2.1 dX19_codeAt_8 (by decide) (fun c14 => ?_) (fun c14 => ?_)
  · replace hw := hw.1 (c14)
    refine hv_aload_n (r := some a0) E.1 E.2.1 dX19_codeAt_25 rfl (lv_at hl 0 rfl) ?_
    obtain ⟨f15, ⟨fs, hfs, hfk⟩, hw⟩ := hw
    refine hv_get (v := va_rf f15) E hK hI ciX19 4 (Nat.le_of_ble_eq_true rfl) q1472 (fun _ h => h) (Or.inl hfs) hfk dX19_codeAt_26 ?_
    refine lv_iload_n E.1 E.2.1 dX19_codeAt_29 rfl (lv_at hl 1 rfl) ?_
    refine hv_aload_n (r := some a0) E.1 E.2.1 dX19_codeAt_30 rfl (lv_at hl 0 rfl) ?_
    obtain ⟨f16, ⟨fs, hfs, hfk⟩, hw⟩ := hw
    refine hv_get (v := va_rf f16) E hK hI ciX19 3 (Nat.le_of_ble_eq_true rfl) q1469 (fun _ h => h) (Or.inl hfs) hfk dX19_codeAt_31 ?_
    obtain ⟨a17, ea17, hw⟩ := hw
    revert hl hw; subst ea17; intro hl hw
    obtain ⟨⟨fs20, hrv⟩, hw⟩ := hw
    have hq := hw
    clear hw
    refine hv_calli (u := 0) (B1 := 0) hI (vx_runV (As := []) (rest := [.int (i1), va_rf f15]) E (met_J2_size l G (d + 2) hq) (cwV 0 E.2.2.2.2 (lw_V q1558 q752 q753 q124 q754) rfl rfl rfl hd_J2_size (rm_ok (by omega) (by decide))) (hv_preV hK hI hrv rfl) rfl rfl hl.1 rfl (lv_room (by first | rfl | decide | (simp [va_rf_cat, int_cat, long_cat]; done) | (simp [va_rf_cat, int_cat, long_cat]; decide))) dX19_codeAt_34 (hv_fit (by first | exact (Nat.le_refl 0) | omega))) (fun _ _ _ _ _ h => h.elim) (fun x19 y18 H locs hw hI => ?_)
    refine lv_isub E.1 E.2.1 dX19_codeAt_37 ?_
    obtain ⟨a21, ea21, hw⟩ := hw
    revert hl hw; subst ea21; intro hl hw
    obtain ⟨⟨fs24, hrv⟩, hw⟩ := hw
    have hq := hw
    clear hw
    refine hv_callq (u := 0) (B1 := 0) hI (vx_runV (As := [.int (i1 - x19)]) (rest := []) E (met_J2_get l G (d) hq) (cwV 1 E.2.2.2.2 (lw_V q1563 q785 q786 q124 q787) rfl rfl rfl hd_J2_get (rm_ok (by omega) (by decide))) (hv_preV hK hI hrv rfl) rfl rfl hl.1 rfl (lv_room (by first | rfl | decide | (simp [va_rf_cat, int_cat, long_cat]; done) | (simp [va_rf_cat, int_cat, long_cat]; decide))) dX19_codeAt_38 (hv_fit (by first | exact (Nat.le_refl 0) | omega))) (fun _ _ _ _ _ h => h.elim) (fun r23 y22 H locs hw hI => ?_)
    obtain ⟨hof, hw⟩ := hw
    refine hv_castC (cn := 21) E hK hI (by decide) q1564 hof dX19_codeAt_41 ?_
    exact jh2 _ _ hw _ _ _ hI (lv_sub hl [] rfl)
  · replace hw := hw.2 (c14)
    refine hv_aload_n (r := some a0) E.1 E.2.1 dX19_codeAt_11 rfl (lv_at hl 0 rfl) ?_
    obtain ⟨f25, ⟨fs, hfs, hfk⟩, hw⟩ := hw
    refine hv_get (v := va_rf f25) E hK hI ciX19 3 (Nat.le_of_ble_eq_true rfl) q1469 (fun _ h => h) (Or.inl hfs) hfk dX19_codeAt_12 ?_
    refine lv_iload_n E.1 E.2.1 dX19_codeAt_15 rfl (lv_at hl 1 rfl) ?_
    obtain ⟨a26, ea26, hw⟩ := hw
    revert hl hw; subst ea26; intro hl hw
    obtain ⟨⟨fs29, hrv⟩, hw⟩ := hw
    have hq := hw
    clear hw
    refine hv_callq (u := 0) (B1 := 0) hI (vx_runV (As := [.int (i1)]) (rest := []) E (met_J2_get l G (d) hq) (cwV 1 E.2.2.2.2 (lw_V q1563 q785 q786 q124 q787) rfl rfl rfl hd_J2_get (rm_ok (by omega) (by decide))) (hv_preV hK hI hrv rfl) rfl rfl hl.1 rfl (lv_room (by first | rfl | decide | (simp [va_rf_cat, int_cat, long_cat]; done) | (simp [va_rf_cat, int_cat, long_cat]; decide))) dX19_codeAt_16 (hv_fit (by first | exact (Nat.le_refl 0) | omega))) (fun _ _ _ _ _ h => h.elim) (fun r28 y27 H locs hw hI => ?_)
    obtain ⟨hof, hw⟩ := hw
    refine hv_castC (cn := 21) E hK hI (by decide) q1564 hof dX19_codeAt_19 ?_
    refine lv_goto (tgt := 44) E.1 E.2.1 dX19_codeAt_22 (by decide) ?_
    exact jh2 _ _ hw _ _ _ hI (lv_sub hl [] rfl)
/-- CaseGrouper$Wrong.<init>(II)V -/
def wp_X8_init (G : GP) (post : HS → Prop) (y0 : HS) (a0 : Nat) (i1 : Int32) (i2 : Int32) : Prop := wp_J16_init_r6 G (fun y1 => ∃ fs3, y1.1 a0 = some (ob 6 fs3) ∧ 6 < fs3.length ∧ ∀ y2, y2 = hput y1 a0 (ob 6 (fs3.set 6 (.int (((nI 8) * i1) + i2)))) → post y2) y0 a0 none none false false
theorem hs_X8_init : yX8_init.cls ≠ "java/lang/invoke/MethodHandle" ∧ yX8_init.cls ≠ "java/lang/invoke/VarHandle" ∧ (parseMethodDescriptor yX8_init.desc).map (fun d => d.parameters.length) = some 2 := by decide +kernel
set_option maxHeartbeats 4000000 in
theorem met_X8_init (l : Launch) (G : GP) (d : Nat) {post : HS → Prop} {y0 : HS} {a0 : Nat} {i1 : Int32} {i2 : Int32} (hw : wp_X8_init G post y0 a0 i1 i2) : vx_Met l yX8_init (ws_ yX8_init cX8_init 3 none) (rmB (d + 3) 0) (hPc G y0 [va_rf (some a0), .int (i1), .int (i2)]) (hQv G y0 post) (hX G y0 (fun _ _ _ => False)) 0 (20 * 0) (HA y0) := by
  unfold wp_X8_init at hw
  refine hv_met (own := RX8) (by decide) rfl (Nat.le_of_ble_eq_true rfl) ?_
  intro p e s m args below meth c ls E hr hlocks hnm hE hK hI hl
  replace hl : lv_has ls 3 [(0, va_rf (some a0)), (1, .int (i1)), (2, .int (i2))] := hl
  refine hv_aload_n (r := some a0) E.1 E.2.1 dX8_init_0 rfl (lv_at hl 0 rfl) ?_
  refine lv_null E.1 E.2.1 dX8_init_1 ?_
  refine lv_null E.1 E.2.1 dX8_init_2 ?_
  refine lv_iconst (v := nI 0) E.1 E.2.1 dX8_init_3 rfl ?_
  refine lv_iconst (v := nI 0) E.1 E.2.1 dX8_init_4 rfl ?_
  have hq := hw
  clear hw
  refine hv_callv (u := 0) (B1 := 0) hI (vx_runI (b := a0) (As := [va_rf none, va_rf none, .int (nI 0), .int (nI 0)]) (rest := []) E (met_J16_init_r6 l G (d) hq) (cwI 4 E.2.2.2.2 (lw_meth q661) rfl rfl rfl (E.2.2.2.2 _ q147) (E.2.2.2.2 _ q659) (E.2.2.2.2 _ q660) rfl hs_J16_init_r6 (rm_ok (by omega) (by decide))) (hv_preS hK hI) rfl rfl hl.1 rfl (lv_room (by first | rfl | decide | (simp [va_rf_cat, int_cat, long_cat]; done) | (simp [va_rf_cat, int_cat, long_cat]; decide))) dX8_init_5 (hv_fit (by first | exact (Nat.le_refl 0) | omega))) (fun _ _ _ _ _ h => h.elim) (fun y1 H locs hw hI => ?_)
  refine hv_aload_n (r := some a0) E.1 E.2.1 dX8_init_8 rfl (lv_at hl 0 rfl) ?_
  refine lv_bipush (v := nI 8) E.1 E.2.1 dX8_init_9 rfl ?_
  refine lv_iload_n E.1 E.2.1 dX8_init_11 rfl (lv_at hl 1 rfl) ?_
  refine lv_imul E.1 E.2.1 dX8_init_12 ?_
  refine lv_iload_n E.1 E.2.1 dX8_init_13 rfl (lv_at hl 2 rfl) ?_
  refine lv_iadd E.1 E.2.1 dX8_init_14 ?_
  obtain ⟨fs3, hfs, hln, hw⟩ := hw
  refine hv_putF (v := .int (((nI 8) * i1) + i2)) E hK hI ciX8 6 (Nat.le_of_ble_eq_true rfl) q665 (fun _ h => h) rfl hnm rfl rfl rfl hfs hln dX8_init_15 (fun H locs hI => ?_)
  obtain ⟨y2, ey2⟩ : ∃ w, w = hput y1 a0 (ob 6 (fs3.set 6 (.int (((nI 8) * i1) + i2)))) := ⟨_, rfl⟩
  rw [← ey2] at hI
  replace hw := hw y2 ey2
  exact hv_vret E hr hlocks hI (Nat.le_refl 0) hw dX8_init_18
/-- CaseGrouper$Refused.<init>(ILCaseGrouper$Wrong;)V -/
def wp_X17_init (G : GP) (post : HS → Prop) (y0 : HS) (a0 : Nat) (i1 : Int32) (p2 : Option Nat) : Prop := wp_J16_init_r15 G (fun y1 => ∃ fs3, y1.1 a0 = some (ob 15 fs3) ∧ 6 < fs3.length ∧ ∀ y2, y2 = hput y1 a0 (ob 15 (fs3.set 6 (.int (i1)))) → post y2) y0 a0 none p2 false false
theorem hs_X17_init : yX17_init.cls ≠ "java/lang/invoke/MethodHandle" ∧ yX17_init.cls ≠ "java/lang/invoke/VarHandle" ∧ (parseMethodDescriptor yX17_init.desc).map (fun d => d.parameters.length) = some 2 := by decide +kernel
set_option maxHeartbeats 4000000 in
theorem met_X17_init (l : Launch) (G : GP) (d : Nat) {post : HS → Prop} {y0 : HS} {a0 : Nat} {i1 : Int32} {p2 : Option Nat} (hw : wp_X17_init G post y0 a0 i1 p2) : vx_Met l yX17_init (ws_ yX17_init cX17_init 3 none) (rmB (d + 3) 0) (hPc G y0 [va_rf (some a0), .int (i1), va_rf p2]) (hQv G y0 post) (hX G y0 (fun _ _ _ => False)) 0 (20 * 0) (HA y0) := by
  unfold wp_X17_init at hw
  refine hv_met (own := RX17) (by decide) rfl (by simp [lg_sl, va_rf_cat, int_cat, long_cat]) ?_
  intro p e s m args below meth c ls E hr hlocks hnm hE hK hI hl
  replace hl : lv_has ls 3 [(0, va_rf (some a0)), (1, .int (i1)), (2, va_rf p2)] := by simpa [lv_args, va_rf_cat, int_cat, long_cat] using hl
  refine hv_aload_n (r := some a0) E.1 E.2.1 dX17_init_0 rfl (lv_at hl 0 rfl) ?_
  refine lv_null E.1 E.2.1 dX17_init_1 ?_
  refine hv_aload_n (r := p2) E.1 E.2.1 dX17_init_2 rfl (lv_at hl 2 rfl) ?_
  refine lv_iconst (v := nI 0) E.1 E.2.1 dX17_init_3 rfl ?_
  refine lv_iconst (v := nI 0) E.1 E.2.1 dX17_init_4 rfl ?_
  have hq := hw
  clear hw
  refine hv_callv (u := 0) (B1 := 0) hI (vx_runI (b := a0) (As := [va_rf none, va_rf p2, .int (nI 0), .int (nI 0)]) (rest := []) E (met_J16_init_r15 l G (d) hq) (cwI 4 E.2.2.2.2 (lw_meth q661) rfl rfl rfl (E.2.2.2.2 _ q147) (E.2.2.2.2 _ q1230) (E.2.2.2.2 _ q660) rfl hs_J16_init_r15 (rm_ok (by omega) (by decide))) (hv_preS hK hI) rfl rfl hl.1 rfl (lv_room (by first | rfl | decide | (simp [va_rf_cat, int_cat, long_cat]; done) | (simp [va_rf_cat, int_cat, long_cat]; decide))) dX17_init_5 (hv_fit (by first | exact (Nat.le_refl 0) | omega))) (fun _ _ _ _ _ h => h.elim) (fun y1 H locs hw hI => ?_)
  refine hv_aload_n (r := some a0) E.1 E.2.1 dX17_init_8 rfl (lv_at hl 0 rfl) ?_
  refine lv_iload_n E.1 E.2.1 dX17_init_9 rfl (lv_at hl 1 rfl) ?_
  obtain ⟨fs3, hfs, hln, hw⟩ := hw
  refine hv_putF (v := .int (i1)) E hK hI ciX17 6 (Nat.le_of_ble_eq_true rfl) q1231 (fun _ h => h) rfl hnm rfl rfl rfl hfs hln dX17_init_10 (fun H locs hI => ?_)
  obtain ⟨y2, ey2⟩ : ∃ w, w = hput y1 a0 (ob 15 (fs3.set 6 (.int (i1)))) := ⟨_, rfl⟩
  rw [← ey2] at hI
  replace hw := hw y2 ey2
  exact hv_vret E hr hlocks hI (Nat.le_refl 0) hw dX17_init_13
/-- CaseGrouper$Facts.<init>()V -/
def wp_X3_init_r16 (G : GP) (post : HS → Prop) (y0 : HS) (a0 : Nat) : Prop := post y0
theorem hs_X3_init_r16 : yX3_init.cls ≠ "java/lang/invoke/MethodHandle" ∧ yX3_init.cls ≠ "java/lang/invoke/VarHandle" ∧ (parseMethodDescriptor yX3_init.desc).map (fun d => d.parameters.length) = some 0 := by decide +kernel
set_option maxHeartbeats 4000000 in
theorem met_X3_init_r16 (l : Launch) (G : GP) (d : Nat) {post : HS → Prop} {y0 : HS} {a0 : Nat} (hw : wp_X3_init_r16 G post y0 a0) : vx_Met l yX3_init (ws_ yX3_init cX3_init 1 none) (rmB (d + 1) 0) (hPc G y0 [va_rf (some a0)]) (hQv G y0 post) (hX G y0 (fun _ _ _ => False)) 0 (20 * 0) (HA y0) := by
  unfold wp_X3_init_r16 at hw
  refine hv_met (own := RX3) (by decide) rfl (Nat.le_of_ble_eq_true rfl) ?_
  intro p e s m args below meth c ls E hr hlocks hnm hE hK hI hl
  replace hl : lv_has ls 1 [(0, va_rf (some a0))] := hl
  refine hv_aload_n (r := some a0) E.1 E.2.1 dX3_init_0 rfl (lv_at hl 0 rfl) ?_
  refine hv_objInit (r := some a0) E q1255 hl.1 rfl (by first | rfl | decide | (simp [va_rf_cat, int_cat, long_cat]; done) | (simp [va_rf_cat, int_cat, long_cat]; decide)) dX3_init_1 ?_
  exact hv_vret E hr hlocks hI (Nat.le_refl 0) hw dX3_init_4
/-- CaseGrouper$Tried.<init>()V -/
def wp_X18_init (G : GP) (post : HS → Prop) (y0 : HS) (a0 : Nat) : Prop := wp_X3_init_r16 G (fun y1 => post y1) y0 a0
theorem hs_X18_init : yX18_init.cls ≠ "java/lang/invoke/MethodHandle" ∧ yX18_init.cls ≠ "java/lang/invoke/VarHandle" ∧ (parseMethodDescriptor yX18_init.desc).map (fun d => d.parameters.length) = some 0 := by decide +kernel
set_option maxHeartbeats 4000000 in
theorem met_X18_init (l : Launch) (G : GP) (d : Nat) {post : HS → Prop} {y0 : HS} {a0 : Nat} (hw : wp_X18_init G post y0 a0) : vx_Met l yX18_init (ws_ yX18_init cX18_init 1 none) (rmB (d + 2) 0) (hPc G y0 [va_rf (some a0)]) (hQv G y0 post) (hX G y0 (fun _ _ _ => False)) 0 (20 * 0) (HA y0) := by
  unfold wp_X18_init at hw
  refine hv_met (own := RX18) (by decide) rfl (Nat.le_of_ble_eq_true rfl) ?_
  intro p e s m args below meth c ls E hr hlocks hnm hE hK hI hl
  replace hl : lv_has ls 1 [(0, va_rf (some a0))] := hl
  refine hv_aload_n (r := some a0) E.1 E.2.1 dX18_init_0 rfl (lv_at hl 0 rfl) ?_
  have hq := hw
  clear hw
  refine hv_callv (u := 0) (B1 := 0) hI (vx_runIN (R := rmB (d + 2) 0) (b := a0) (As := []) (rest := []) E (met_X3_init_r16 l G (d) hq) ⟨va_cnB 0 E.2.2.2.2 (lw_meth q1254) rfl rfl rfl (hK.2.2.2.2.1 _ q1252 rfl) (E.2.2.2.2 _ q126) hs_X3_init_r16 (rm_ok (by omega) (by decide)), rfl, E.2.2.2.2 _ q1253⟩ (hv_preS hK hI) rfl rfl hl.1 rfl (lv_room (by first | rfl | decide | (simp [va_rf_cat, int_cat, long_cat]; done) | (simp [va_rf_cat, int_cat, long_cat]; decide))) dX18_init_1 (hv_fit (by first | exact (Nat.le_refl 0) | omega))) (fun _ _ _ _ _ h => h.elim) (fun y1 H locs hw hI => ?_)
  exact hv_vret E hr hlocks hI (Nat.le_refl 0) hw dX18_init_4
/-- CaseGrouper$Facts.compares(LCaseGrouper$Atom;I)Z -/
def wp_X3_compares (G : GP) (post : Bool → HS → Prop) (y0 : HS) (p0 : Option Nat) (i1 : Int32) : Prop := ∃ a1, p0 = some a1 ∧ ∃ f2, fI y0 a1 13 2 f2 ∧ (¬ f2 = (nI 60) → ∃ f4, fI y0 a1 13 3 f4 ∧ (i1 ≤ f4 → post false y0) ∧ (¬ i1 ≤ f4 → post true y0)) ∧ (f2 = (nI 60) → ∃ f6, fI y0 a1 13 3 f6 ∧ (f6 ≤ i1 → post false y0) ∧ (¬ f6 ≤ i1 → post true y0))
theorem hs_X3_compares : yX3_compares.cls ≠ "java/lang/invoke/MethodHandle" ∧ yX3_compares.cls ≠ "java/lang/invoke/VarHandle" ∧ (parseMethodDescriptor yX3_compares.desc).map (fun d => d.parameters.length) = some 2 := by decide +kernel
set_option maxHeartbeats 4000000 in
theorem met_X3_compares (l : Launch) (G : GP) (d : Nat) {post : Bool → HS → Prop} {y0 : HS} {p0 : Option Nat} {i1 : Int32} (hw : wp_X3_compares G post y0 p0 i1) : vx_Met l yX3_compares (ws_ yX3_compares cX3_compares 2 (some .boolean)) (rmB (d + 0) 0) (hPc G y0 [va_rf p0, .int (i1)]) (hQz G y0 post) (hX G y0 (fun _ _ _ => False)) 0 (20 * 0) (HA y0) := by
  unfold wp_X3_compares at hw
  refine hv_met (own := RX3) (by decide) rfl (by simp [lg_sl, va_rf_cat, int_cat, long_cat]) ?_
  intro p e s m args below meth c ls E hr hlocks hnm hE hK hI hl
  replace hl : lv_has ls 2 [(0, va_rf p0), (1, .int (i1))] := by simpa [lv_args, va_rf_cat, int_cat, long_cat] using hl
  refine hv_aload_n (r := p0) E.1 E.2.1 dX3_compares_0 rfl (lv_at hl 0 rfl) ?_
  obtain ⟨a1, ea1, hw⟩ := hw
  revert hl hw; subst ea1; intro hl hw
  obtain ⟨f2, ⟨fs, hfs, hfk⟩, hw⟩ := hw
  refine hv_getN (v := .int f2) E hK hI ciX15 2 (Nat.le_of_ble_eq_true rfl) q1161 (fun _ h => h) (Or.inl hfs) hfk dX3_compares_1 ?_
  refine lv_bipush (v := nI 60) E.1 E.2.1 dX3_compares_4 rfl ?_
  refine lv_icmp_ne (tgt := 25) E.1 E.2.1 dX3_compares_6 (by decide) (fun c3 => ?_) (fun c3 => ?_)
  · replace hw := hw.1 (c3)
    refine lv_iload_n E.1 E.2.1 dX3_compares_25 rfl (lv_at hl 1 rfl) ?_
    refine hv_aload_n (r := some a1) E.1 E.2.1 dX3_compares_26 rfl (lv_at hl 0 rfl) ?_
    obtain ⟨f4, ⟨fs, hfs, hfk⟩, hw⟩ := hw
    refine hv_getN (v := .int f4) E hK hI ciX15 3 (Nat.le_of_ble_eq_true rfl) q1164 (fun _ h => h) (Or.inl hfs) hfk dX3_compares_27 ?_
    refine lv_icmp_le (tgt := 37) E.1 E.2.1 dX3_compares_30 (by decide) (fun c5 => ?_) (fun c5 => ?_)
    · replace hw := hw.1 (c5)
      refine lv_iconst (v := nI 0) E.1 E.2.1 dX3_compares_37 rfl ?_
      exact hv_iretz (b := false) E hr hlocks hI (Nat.le_refl 0) rfl hw dX3_compares_38
    · replace hw := hw.2 (c5)
      refine lv_iconst (v := nI 1) E.1 E.2.1 dX3_compares_33 rfl ?_
      refine lv_goto (tgt := 38) E.1 E.2.1 dX3_compares_34 (by decide) ?_
      exact hv_iretz (b := true) E hr hlocks hI (Nat.le_refl 0) rfl hw dX3_compares_38
  · replace hw := hw.2 (c3)
    refine lv_iload_n E.1 E.2.1 dX3_compares_9 rfl (lv_at hl 1 rfl) ?_
    refine hv_aload_n (r := some a1) E.1 E.2.1 dX3_compares_10 rfl (lv_at hl 0 rfl) ?_
    obtain ⟨f6, ⟨fs, hfs, hfk⟩, hw⟩ := hw
    refine hv_getN (v := .int f6) E hK hI ciX15 3 (Nat.le_of_ble_eq_true rfl) q1164 (fun _ h => h) (Or.inl hfs) hfk dX3_compares_11 ?_
    refine lv_icmp_ge (tgt := 21) E.1 E.2.1 dX3_compares_14 (by decide) (fun c7 => ?_) (fun c7 => ?_)
    · replace hw := hw.1 (c7)
      refine lv_iconst (v := nI 0) E.1 E.2.1 dX3_compares_21 rfl ?_
      refine lv_goto (tgt := 38) E.1 E.2.1 dX3_compares_22 (by decide) ?_
      exact hv_iretz (b := false) E hr hlocks hI (Nat.le_refl 0) rfl hw dX3_compares_38
    · replace hw := hw.2 (c7)
      refine lv_iconst (v := nI 1) E.1 E.2.1 dX3_compares_17 rfl ?_
      refine lv_goto (tgt := 38) E.1 E.2.1 dX3_compares_18 (by decide) ?_
      exact hv_iretz (b := true) E hr hlocks hI (Nat.le_refl 0) rfl hw dX3_compares_38
/-- CaseGrouper$Tried.holds(LCaseGrouper$Atom;)Z -/
def wp_X18_holds (G : GP) (post : Bool → HS → Prop) (y0 : HS) (a0 : Nat) (p1 : Option Nat) : Prop := ∃ a1, p1 = some a1 ∧ (∃ fs4, rd G y0 a1 (ob 13 fs4)) ∧ wp_X15_isOfCodes G (fun b3 y2 => (b3 = false → ∃ J6 : HS → Int32 → (Option Nat) → Prop, (∀ (y8 : HS) (x9 : Int32) (r10 : Option Nat), J6 y8 x9 r10 → wp_X3_compares G (fun b12 y11 => post b12 y11) y8 r10 x9) ∧ (∃ f13, fR y2 a1 13 0 f13 ∧ ∃ a14, f13 = some a14 ∧ (∃ fs17, rd G y2 a14 (ob 20 fs17)) ∧ wp_J5_equals G (fun b16 y15 => (b16 = false → ∃ f19, fR y15 a1 13 0 f19 ∧ ∃ a20, f19 = some a20 ∧ (∃ fs23, rd G y15 a20 (ob 20 fs23)) ∧ wp_J5_equals G (fun b22 y21 => (b22 = false → ∃ f25, fR y21 a1 13 0 f25 ∧ ∃ a26, f25 = some a26 ∧ (∃ fs29, rd G y21 a26 (ob 20 fs29)) ∧ wp_J5_equals G (fun b28 y27 => (b28 = false → ∃ f31, fI y27 a0 16 4 f31 ∧ J6 y27 f31 (some a1)) ∧ (b28 = true → ∃ f32, fI y27 a0 16 3 f32 ∧ J6 y27 f32 (some a1))) y21 a26 (some (gK G 10))) ∧ (b22 = true → ∃ f33, fI y21 a0 16 2 f33 ∧ J6 y21 f33 (some a1))) y15 a20 (some (gK G 5))) ∧ (b16 = true → ∃ f34, fI y15 a0 16 1 f34 ∧ J6 y15 f34 (some a1))) y2 a14 (some (gK G 0)))) ∧ (b3 = true → ∃ f36, fI y2 a0 16 0 f36 ∧ ∃ f37, fI y2 a1 13 4 f37 ∧ (¬ ((f36 >>> (f37 &&& 31)) &&& (nI 1)) = (nI 1) → post false y2) ∧ (((f36 >>> (f37 &&& 31)) &&& (nI 1)) = (nI 1) → post true y2))) y0 a1
theorem hs_X18_holds : yX18_holds.cls ≠ "java/lang/invoke/MethodHandle" ∧ yX18_holds.cls ≠ "java/lang/invoke/VarHandle" ∧ (parseMethodDescriptor yX18_holds.desc).map (fun d => d.parameters.length) = some 1 := by decide +kernel
theorem hd_X18_holds : yX18_holds.cls = RX18 ∧ yX18_holds.cls ≠ "java/lang/invoke/MethodHandle" ∧ yX18_holds.cls ≠ "java/lang/invoke/VarHandle" ∧ (parseMethodDescriptor yX18_holds.desc).map (fun d => d.parameters.length) = some 1 := by decide +kernel
set_option maxHeartbeats 4000000 in
theorem met_X18_holds (l : Launch) (G : GP) (d : Nat) {post : Bool → HS → Prop} {y0 : HS} {a0 : Nat} {p1 : Option Nat} (hw : wp_X18_holds G post y0 a0 p1) : vx_Met l yX18_holds (ws_ yX18_holds cX18_holds 2 (some .boolean)) (rmB (d + 2) 0) (hPc G y0 [va_rf (some a0), va_rf p1]) (hQz G y0 post) (hX G y0 (fun _ _ _ => False)) 0 (20 * 0) (HA y0) := by
  unfold wp_X18_holds at hw
  refine hv_met (own := RX18) (by decide) rfl (by simp [lg_sl, va_rf_cat, int_cat, long_cat]) ?_
  intro p e s m args below meth c ls E hr hlocks hnm hE hK hI hl
  replace hl : lv_has ls 2 [(0, va_rf (some a0)), (1, va_rf p1)] := by simpa [lv_args, va_rf_cat, int_cat, long_cat] using hl
  refine hv_aload_n (r := p1) E.1 E.2.1 dX18_holds_0 rfl (lv_at hl 1 rfl) ?_
  obtain ⟨a1, ea1, hw⟩ := hw
  revert hl hw; subst ea1; intro hl hw
  obtain ⟨⟨fs4, hrv⟩, hw⟩ := hw
  have hq := hw
  clear hw
  refine hv_callz (u := 0) (B1 := 0) hI (vx_runV (As := []) (rest := []) E (met_X15_isOfCodes l G (d + 1) hq) (cwV 0 E.2.2.2.2 (lw_V q1339 q1147 q1148 q159 q1149) rfl rfl rfl hd_X15_isOfCodes (rm_ok (by omega) (by decide))) (hv_preV hK hI hrv rfl) rfl rfl hl.1 rfl (lv_room (by first | rfl | decide | (simp [va_rf_cat, int_cat, long_cat]; done) | (simp [va_rf_cat, int_cat, long_cat]; decide))) dX18_holds_1 (hv_fit (by first | exact (Nat.le_refl 0) | omega))) (fun _ _ _ _ _ h => h.elim) (fun b3 y2 H locs hw hI => ?_)
  refine lv_if_eq (tgt := 28) E.1 E.2.1 dX18_holds_4 (by decide) (fun c5 => ?_) (fun c5 => ?_)
  · replace hw := hw.1 (bi_z c5)
    obtain ⟨J6, hj35, hw⟩ := hw
    have jh7 : ∀ (y8 : HS) (x9 : Int32) (r10 : Option Nat), J6 y8 x9 r10 → ∀ (H : Heap) (locs : List Loc) (ls : Array Slot), HI G y0 y8 s H locs → lv_has ls 2 [] → W p l e (rmB (d + 2) 0) s m args below meth c H locs 0 (20 * 0) (vx_MQ below (hQz G y0 post) (hX G y0 (fun _ _ _ => False)) args s 0 (20 * 0) (HA y0)) (F0 m 90 ls [.int (x9), va_rf r10]) := by
      intro y8 x9 r10 hw H locs ls hI hl
      replace hw := hj35 y8 x9 r10 hw
      have hq := hw
      clear hw
      refine hv_callz (u := 0) (B1 := 0) hI (vx_runSI (x := ⟨"CaseGrouper$Tried", "compares", "(LCaseGrouper$Atom;I)Z"⟩) (As := [va_rf r10, .int (x9)]) (rest := []) E (met_X3_compares l G (d + 1) hq) (lw_meth q1335) rfl rfl (rm_ok (by omega) (by decide)) q1344 q1345 ⟨rfl, rfl⟩ q1334 q126 hs_X3_compares (hv_preS hK hI) rfl rfl hl.1 rfl (lv_room (by first | rfl | decide | (simp [va_rf_cat, int_cat, long_cat]; done) | (simp [va_rf_cat, int_cat, long_cat]; decide))) dX18_holds_90 (hv_fit (by first | exact (Nat.le_refl 0) | omega))) (fun _ _ _ _ _ h => h.elim) (fun b12 y11 H locs hw hI => ?_)
      exact hv_iretz (b := b12) E hr hlocks hI (Nat.le_refl 0) rfl hw dX18_holds_93
    refine hv_aload_n (r := some a1) E.1 E.2.1 dX18_holds_28 rfl (lv_at hl 1 rfl) ?_
    refine hv_aload_n (r := some a1) E.1 E.2.1 dX18_holds_29 rfl (lv_at hl 1 rfl) ?_
    obtain ⟨f13, ⟨fs, hfs, hfk⟩, hw⟩ := hw
    refine hv_getN (v := va_rf f13) E hK hI ciX15 0 (Nat.le_of_ble_eq_true rfl) q1155 (fun _ h => h) (Or.inl hfs) hfk dX18_holds_30 ?_
    refine hv_ldcS E hK 30 0 rfl dX18_holds_33 ?_
    obtain ⟨a14, ea14, hw⟩ := hw
    revert hl hw; subst ea14; intro hl hw
    obtain ⟨⟨fs17, hrv⟩, hw⟩ := hw
    have hq := hw
    clear hw
    refine hv_callz (u := 0) (B1 := 0) hI (vx_runV (As := [va_rf (some (gK G 0))]) (rest := [va_rf (some a1)]) E (met_J5_equals l G (d) hq) (cwV 1 E.2.2.2.2 (lw_V q1341 q737 q738 q132 q739) rfl rfl rfl hd_J5_equals (rm_ok (by omega) (by decide))) (hv_preV hK hI hrv rfl) rfl rfl hl.1 rfl (lv_room (by first | rfl | decide | (simp [va_rf_cat, int_cat, long_cat]; done) | (simp [va_rf_cat, int_cat, long_cat]; decide))) dX18_holds_35 (hv_fit (by first | exact (Nat.le_refl 0) | omega))) (fun _ _ _ _ _ h => h.elim) (fun b16 y15 H locs hw hI => ?_)
    refine lv_if_eq (tgt := 48) E.1 E.2.1 dX18_holds_38 (by decide) (fun c18 => ?_) (fun c18 => ?_)
    · replace hw := hw.1 (bi_z c18)
      refine hv_aload_n (r := some a1) E.1 E.2.1 dX18_holds_48 rfl (lv_at hl 1 rfl) ?_
      obtain ⟨f19, ⟨fs, hfs, hfk⟩, hw⟩ := hw
      refine hv_getN (v := va_rf f19) E hK hI ciX15 0 (Nat.le_of_ble_eq_true rfl) q1155 (fun _ h => h) (Or.inl hfs) hfk dX18_holds_49 ?_
      refine hv_ldcS E hK 31 5 rfl dX18_holds_52 ?_
      obtain ⟨a20, ea20, hw⟩ := hw
      revert hl hw; subst ea20; intro hl hw
      obtain ⟨⟨fs23, hrv⟩, hw⟩ := hw
      have hq := hw
      clear hw
      refine hv_callz (u := 0) (B1 := 0) hI (vx_runV (As := [va_rf (some (gK G 5))]) (rest := [va_rf (some a1)]) E (met_J5_equals l G (d) hq) (cwV 1 E.2.2.2.2 (lw_V q1341 q737 q738 q132 q739) rfl rfl rfl hd_J5_equals (rm_ok (by omega) (by decide))) (hv_preV hK hI hrv rfl) rfl rfl hl.1 rfl (lv_room (by first | rfl | decide | (simp [va_rf_cat, int_cat, long_cat]; done) | (simp [va_rf_cat, int_cat, long_cat]; decide))) dX18_holds_54 (hv_fit (by first | exact (Nat.le_refl 0) | omega))) (fun _ _ _ _ _ h => h.elim) (fun b22 y21 H locs hw hI => ?_)
      refine lv_if_eq (tgt := 67) E.1 E.2.1 dX18_holds_57 (by decide) (fun c24 => ?_) (fun c24 => ?_)
      · replace hw := hw.1 (bi_z c24)
        refine hv_aload_n (r := some a1) E.1 E.2.1 dX18_holds_67 rfl (lv_at hl 1 rfl) ?_
        obtain ⟨f25, ⟨fs, hfs, hfk⟩, hw⟩ := hw
        refine hv_getN (v := va_rf f25) E hK hI ciX15 0 (Nat.le_of_ble_eq_true rfl) q1155 (fun _ h => h) (Or.inl hfs) hfk dX18_holds_68 ?_
        refine hv_ldcS E hK 32 10 rfl dX18_holds_71 ?_
        obtain ⟨a26, ea26, hw⟩ := hw
        revert hl hw; subst ea26; intro hl hw
        obtain ⟨⟨fs29, hrv⟩, hw⟩ := hw
        have hq := hw
        clear hw
        refine hv_callz (u := 0) (B1 := 0) hI (vx_runV (As := [va_rf (some (gK G 10))]) (rest := [va_rf (some a1)]) E (met_J5_equals l G (d) hq) (cwV 1 E.2.2.2.2 (lw_V q1341 q737 q738 q132 q739) rfl rfl rfl hd_J5_equals (rm_ok (by omega) (by decide))) (hv_preV hK hI hrv rfl) rfl rfl hl.1 rfl (lv_room (by first | rfl | decide | (simp [va_rf_cat, int_cat, long_cat]; done) | (simp [va_rf_cat, int_cat, long_cat]; decide))) dX18_holds_73 (hv_fit (by first | exact (Nat.le_refl 0) | omega))) (fun _ _ _ _ _ h => h.elim) (fun b28 y27 H locs hw hI => ?_)
        refine lv_if_eq (tgt := 86) E.1 E.2.1 dX18_holds_76 (by decide) (fun c30 => ?_) (fun c30 => ?_)
        · replace hw := hw.1 (bi_z c30)
          refine hv_aload_n (r := some a0) E.1 E.2.1 dX18_holds_86 rfl (lv_at hl 0 rfl) ?_
          obtain ⟨f31, ⟨fs, hfs, hfk⟩, hw⟩ := hw
          refine hv_get (v := .int f31) E hK hI ciX18 4 (Nat.le_of_ble_eq_true rfl) q1264 (fun _ h => h) (Or.inl hfs) hfk dX18_holds_87 ?_
          exact jh7 _ _ _ hw _ _ _ hI (lv_sub hl [] rfl)
        · replace hw := hw.2 (bi_n c30)
          refine hv_aload_n (r := some a0) E.1 E.2.1 dX18_holds_79 rfl (lv_at hl 0 rfl) ?_
          obtain ⟨f32, ⟨fs, hfs, hfk⟩, hw⟩ := hw
          refine hv_get (v := .int f32) E hK hI ciX18 3 (Nat.le_of_ble_eq_true rfl) q1262 (fun _ h => h) (Or.inl hfs) hfk dX18_holds_80 ?_
          refine lv_goto (tgt := 90) E.1 E.2.1 dX18_holds_83 (by decide) ?_
          exact jh7 _ _ _ hw _ _ _ hI (lv_sub hl [] rfl)
      · replace hw := hw.2 (bi_n c24)
        refine hv_aload_n (r := some a0) E.1 E.2.1 dX18_holds_60 rfl (lv_at hl 0 rfl) ?_
        obtain ⟨f33, ⟨fs, hfs, hfk⟩, hw⟩ := hw
        refine hv_get (v := .int f33) E hK hI ciX18 2 (Nat.le_of_ble_eq_true rfl) q1260 (fun _ h => h) (Or.inl hfs) hfk dX18_holds_61 ?_
        refine lv_goto (tgt := 90) E.1 E.2.1 dX18_holds_64 (by decide) ?_
        exact jh7 _ _ _ hw _ _ _ hI (lv_sub hl [] rfl)
    · replace hw := hw.2 (bi_n c18)
      refine hv_aload_n (r := some a0) E.1 E.2.1 dX18_holds_41 rfl (lv_at hl 0 rfl) ?_
      obtain ⟨f34, ⟨fs, hfs, hfk⟩, hw⟩ := hw
      refine hv_get (v := .int f34) E hK hI ciX18 1 (Nat.le_of_ble_eq_true rfl) q1258 (fun _ h => h) (Or.inl hfs) hfk dX18_holds_42 ?_
      refine lv_goto (tgt := 90) E.1 E.2.1 dX18_holds_45 (by decide) ?_
      exact jh7 _ _ _ hw _ _ _ hI (lv_sub hl [] rfl)
  · replace hw := hw.2 (bi_n c5)
    refine hv_aload_n (r := some a0) E.1 E.2.1 dX18_holds_7 rfl (lv_at hl 0 rfl) ?_
    obtain ⟨f36, ⟨fs, hfs, hfk⟩, hw⟩ := hw
    refine hv_get (v := .int f36) E hK hI ciX18 0 (Nat.le_of_ble_eq_true rfl) q1256 (fun _ h => h) (Or.inl hfs) hfk dX18_holds_8 ?_
    refine hv_aload_n (r := some a1) E.1 E.2.1 dX18_holds_11 rfl (lv_at hl 1 rfl) ?_
    obtain ⟨f37, ⟨fs, hfs, hfk⟩, hw⟩ := hw
    refine hv_getN (v := .int f37) E hK hI ciX15 4 (Nat.le_of_ble_eq_true rfl) q1167 (fun _ h => h) (Or.inl hfs) hfk dX18_holds_12 ?_
    refine lv_ishr E.1 E.2.1 dX18_holds_15 ?_
    refine lv_iconst (v := nI 1) E.1 E.2.1 dX18_holds_16 rfl ?_
    refine lv_iand E.1 E.2.1 dX18_holds_17 ?_
    refine lv_iconst (v := nI 1) E.1 E.2.1 dX18_holds_18 rfl ?_
    refine lv_icmp_ne (tgt := 26) E.1 E.2.1 dX18_holds_19 (by decide) (fun c38 => ?_) (fun c38 => ?_)
    · replace hw := hw.1 (c38)
      refine lv_iconst (v := nI 0) E.1 E.2.1 dX18_holds_26 rfl ?_
      exact hv_iretz (b := false) E hr hlocks hI (Nat.le_refl 0) rfl hw dX18_holds_27
    · replace hw := hw.2 (c38)
      refine lv_iconst (v := nI 1) E.1 E.2.1 dX18_holds_22 rfl ?_
      refine lv_goto (tgt := 27) E.1 E.2.1 dX18_holds_23 (by decide) ?_
      exact hv_iretz (b := true) E hr hlocks hI (Nat.le_refl 0) rfl hw dX18_holds_27
/-- CaseGrouper$Facts.<init>()V -/
def wp_X3_init_r2 (G : GP) (post : HS → Prop) (y0 : HS) (a0 : Nat) : Prop := post y0
theorem hs_X3_init_r2 : yX3_init.cls ≠ "java/lang/invoke/MethodHandle" ∧ yX3_init.cls ≠ "java/lang/invoke/VarHandle" ∧ (parseMethodDescriptor yX3_init.desc).map (fun d => d.parameters.length) = some 0 := by decide +kernel
set_option maxHeartbeats 4000000 in
theorem met_X3_init_r2 (l : Launch) (G : GP) (d : Nat) {post : HS → Prop} {y0 : HS} {a0 : Nat} (hw : wp_X3_init_r2 G post y0 a0) : vx_Met l yX3_init (ws_ yX3_init cX3_init 1 none) (rmB (d + 1) 0) (hPc G y0 [va_rf (some a0)]) (hQv G y0 post) (hX G y0 (fun _ _ _ => False)) 0 (20 * 0) (HA y0) := by
  unfold wp_X3_init_r2 at hw
  refine hv_met (own := RX3) (by decide) rfl (Nat.le_of_ble_eq_true rfl) ?_
  intro p e s m args below meth c ls E hr hlocks hnm hE hK hI hl
  replace hl : lv_has ls 1 [(0, va_rf (some a0))] := hl
  refine hv_aload_n (r := some a0) E.1 E.2.1 dX3_init_0 rfl (lv_at hl 0 rfl) ?_
  refine hv_objInit (r := some a0) E q1255 hl.1 rfl (by first | rfl | decide | (simp [va_rf_cat, int_cat, long_cat]; done) | (simp [va_rf_cat, int_cat, long_cat]; decide)) dX3_init_1 ?_
  exact hv_vret E hr hlocks hI (Nat.le_refl 0) hw dX3_init_4
/-- CaseGrouper$Seen.hasAny(Ljava/util/ArrayList;LCaseGrouper$Span;)Z -/
def wp_X4_hasAny (G : GP) (post : Bool → HS → Prop) (y0 : HS) (a0 : Nat) (p1 : Option Nat) (p2 : Option Nat) : Prop := ∃ I1 : Nat → HS → Int32 → Prop, (∃ n7, I1 n7 y0 (nI 0)) ∧ ∀ (n2 : Nat) (y3 : HS) (x6 : Int32), I1 n2 y3 x6 → ∃ a8, p1 = some a8 ∧ (∃ fs11, rd G y3 a8 (ob 18 fs11)) ∧ wp_J2_size G (fun x10 y9 => (x10 ≤ x6 → post false y9) ∧ (¬ x10 ≤ x6 → (∃ fs15, rd G y9 a8 (ob 18 fs15)) ∧ wp_J2_get G (fun r14 y13 => isOf G y13 r14 21 ∧ ∃ a16, r14 = some a16 ∧ (∃ fs19, rd G y13 a16 (ob 21 fs19)) ∧ wp_J13_intValue G (fun x18 y17 => ∃ a20, p2 = some a20 ∧ (∃ fs23, rd G y17 a20 (ob 8 fs23)) ∧ wp_X10_has G (fun b22 y21 => (b22 = false → ∃ n25, n25 < n2 ∧ I1 n25 y21 (x6 + nI 1)) ∧ (b22 = true → post true y21)) y17 a20 x18) y13 a16) y9 a8 x6)) y3 a8
theorem hs_X4_hasAny : yX4_hasAny.cls ≠ "java/lang/invoke/MethodHandle" ∧ yX4_hasAny.cls ≠ "java/lang/invoke/VarHandle" ∧ (parseMethodDescriptor yX4_hasAny.desc).map (fun d => d.parameters.length) = some 2 := by decide +kernel
theorem hd_X4_hasAny : yX4_hasAny.cls = RX4 ∧ yX4_hasAny.cls ≠ "java/lang/invoke/MethodHandle" ∧ yX4_hasAny.cls ≠ "java/lang/invoke/VarHandle" ∧ (parseMethodDescriptor yX4_hasAny.desc).map (fun d => d.parameters.length) = some 2 := by decide +kernel
set_option maxHeartbeats 4000000 in
theorem met_X4_hasAny (l : Launch) (G : GP) (d : Nat) {post : Bool → HS → Prop} {y0 : HS} {a0 : Nat} {p1 : Option Nat} {p2 : Option Nat} (hw : wp_X4_hasAny G post y0 a0 p1 p2) : vx_Met l yX4_hasAny (ws_ yX4_hasAny cX4_hasAny 4 (some .boolean)) (rmB (d + 3) 0) (hPc G y0 [va_rf (some a0), va_rf p1, va_rf p2]) (hQz G y0 post) (hX G y0 (fun _ _ _ => False)) 0 (20 * 0) (HA y0) := by
  unfold wp_X4_hasAny at hw
  refine hv_met (own := RX4) (by decide) rfl (by simp [lg_sl, va_rf_cat, int_cat, long_cat]) ?_
  intro p e s m args below meth c ls E hr hlocks hnm hE hK hI hl
  replace hl : lv_has ls 4 [(0, va_rf (some a0)), (1, va_rf p1), (2, va_rf p2)] := by simpa [lv_args, va_rf_cat, int_cat, long_cat] using hl
  refine lv_iconst (v := nI 0) E.1 E.2.1 dX4_hasAny_0 rfl ?_
  refine lv_istore_n (lv' := [(3, .int (nI 0)), (0, va_rf (some a0)), (1, va_rf p1), (2, va_rf p2)]) E.1 E.2.1 dX4_hasAny_1 rfl hl (Nat.le_of_ble_eq_true rfl) (by first | rfl | decide | (simp [va_rf_cat, int_cat, long_cat]; done) | (simp [va_rf_cat, int_cat, long_cat]; decide)) (fun ls hl => ?_)
  obtain ⟨I1, ⟨n7, hi27⟩, hb26⟩ := hw
  have L5 : ∀ (n2 : Nat) (y3 : HS) (x6 : Int32), I1 n2 y3 x6 → ∀ (H : Heap) (locs : List Loc) (ls : Array Slot), HI G y0 y3 s H locs → lv_has ls 4 [(1, va_rf p1), (2, va_rf p2), (3, .int (x6))] → W p l e (rmB (d + 3) 0) s m args below meth c H locs 0 (20 * 0) (vx_MQ below (hQz G y0 post) (hX G y0 (fun _ _ _ => False)) args s 0 (20 * 0) (HA y0)) (F0 m 2 ls []) := by
    intro n2
    induction n2 using Nat.strongRecOn with
    | _ n2 ih4 =>
      intro y3 x6 hw H locs ls hI hl
      replace hw := hb26 n2 y3 x6 hw
      refine lv_iload_n E.1 E.2.1 dX4_hasAny_2 rfl (lv_at hl 2 rfl) ?_
      refine hv_aload_n (r := p1) E.1 E.2.1 dX4_hasAny_3 rfl (lv_at hl 0 rfl) ?_
      obtain ⟨a8, ea8, hw⟩ := hw
      revert hl hw; subst ea8; intro hl hw
      obtain ⟨⟨fs11, hrv⟩, hw⟩ := hw
      have hq := hw
      clear hw
      refine hv_calli (u := 0) (B1 := 0) hI (vx_runV (As := []) (rest := [.int (x6)]) E (met_J2_size l G (d + 2) hq) (cwV 0 E.2.2.2.2 (lw_V q1328 q752 q753 q124 q754) rfl rfl rfl hd_J2_size (rm_ok (by omega) (by decide))) (hv_preV hK hI hrv rfl) rfl rfl hl.1 rfl (lv_room (by first | rfl | decide | (simp [va_rf_cat, int_cat, long_cat]; done) | (simp [va_rf_cat, int_cat, long_cat]; decide))) dX4_hasAny_4 (hv_fit (by first | exact (Nat.le_refl 0) | omega))) (fun _ _ _ _ _ h => h.elim) (fun x10 y9 H locs hw hI => ?_)
      refine lv_icmp_ge (tgt := 36) E.1 E.2.1 dX4_hasAny_7 (by decide) (fun c12 => ?_) (fun c12 => ?_)
      · replace hw := hw.1 (c12)
        refine lv_iconst (v := nI 0) E.1 E.2.1 dX4_hasAny_36 rfl ?_
        exact hv_iretz (b := false) E hr hlocks hI (Nat.le_refl 0) rfl hw dX4_hasAny_37
      · replace hw := hw.2 (c12)
        refine hv_aload_n (r := p2) E.1 E.2.1 dX4_hasAny_10 rfl (lv_at hl 1 rfl) ?_
        refine hv_aload_n (r := some a8) E.1 E.2.1 dX4_hasAny_11 rfl (lv_at hl 0 rfl) ?_
        refine lv_iload_n E.1 E.2.1 dX4_hasAny_12 rfl (lv_at hl 2 rfl) ?_
        obtain ⟨⟨fs15, hrv⟩, hw⟩ := hw
        have hq := hw
        clear hw
        refine hv_callq (u := 0) (B1 := 0) hI (vx_runV (As := [.int (x6)]) (rest := [va_rf p2]) E (met_J2_get l G (d) hq) (cwV 1 E.2.2.2.2 (lw_V q1329 q785 q786 q124 q787) rfl rfl rfl hd_J2_get (rm_ok (by omega) (by decide))) (hv_preV hK hI hrv rfl) rfl rfl hl.1 rfl (lv_room (by first | rfl | decide | (simp [va_rf_cat, int_cat, long_cat]; done) | (simp [va_rf_cat, int_cat, long_cat]; decide))) dX4_hasAny_13 (hv_fit (by first | exact (Nat.le_refl 0) | omega))) (fun _ _ _ _ _ h => h.elim) (fun r14 y13 H locs hw hI => ?_)
        obtain ⟨hof, hw⟩ := hw
        refine hv_castC (cn := 21) E hK hI (by decide) q1330 hof dX4_hasAny_16 ?_
        obtain ⟨a16, ea16, hw⟩ := hw
        revert hl hw; subst ea16; intro hl hw
        obtain ⟨⟨fs19, hrv⟩, hw⟩ := hw
        have hq := hw
        clear hw
        refine hv_calli (u := 0) (B1 := 0) hI (vx_runV (As := []) (rest := [va_rf p2]) E (met_J13_intValue l G (d + 2) hq) (cwV 0 E.2.2.2.2 (lw_V q1331 q993 q994 q141 q995) rfl rfl rfl hd_J13_intValue (rm_ok (by omega) (by decide))) (hv_preV hK hI hrv rfl) rfl rfl hl.1 rfl (lv_room (by first | rfl | decide | (simp [va_rf_cat, int_cat, long_cat]; done) | (simp [va_rf_cat, int_cat, long_cat]; decide))) dX4_hasAny_19 (hv_fit (by first | exact (Nat.le_refl 0) | omega))) (fun _ _ _ _ _ h => h.elim) (fun x18 y17 H locs hw hI => ?_)
        obtain ⟨a20, ea20, hw⟩ := hw
        revert hl hw; subst ea20; intro hl hw
        obtain ⟨⟨fs23, hrv⟩, hw⟩ := hw
        have hq := hw
        clear hw
        refine hv_callz (u := 0) (B1 := 0) hI (vx_runV (As := [.int (x18)]) (rest := []) E (met_X10_has l G (d + 1) hq) (cwV 1 E.2.2.2.2 (lw_V q1318 q1319 q1320 q154 q1321) rfl rfl rfl hd_X10_has (rm_ok (by omega) (by decide))) (hv_preV hK hI hrv rfl) rfl rfl hl.1 rfl (lv_room (by first | rfl | decide | (simp [va_rf_cat, int_cat, long_cat]; done) | (simp [va_rf_cat, int_cat, long_cat]; decide))) dX4_hasAny_22 (hv_fit (by first | exact (Nat.le_refl 0) | omega))) (fun _ _ _ _ _ h => h.elim) (fun b22 y21 H locs hw hI => ?_)
        refine lv_if_eq (tgt := 30) E.1 E.2.1 dX4_hasAny_25 (by decide) (fun c24 => ?_) (fun c24 => ?_)
        · replace hw := hw.1 (bi_z c24)
          refine lv_iinc (k := 2) (v := x6 + nI 1) (lv' := [(3, .int (x6 + nI 1)), (1, va_rf (some a8)), (2, va_rf (some a20))]) E.1 E.2.1 dX4_hasAny_30 hl rfl rfl (Nat.le_of_ble_eq_true rfl) (by first | rfl | decide | (simp [va_rf_cat, int_cat, long_cat]; done) | (simp [va_rf_cat, int_cat, long_cat]; decide)) (fun ls hl => ?_)
          refine lv_goto (tgt := 2) E.1 E.2.1 dX4_hasAny_33 (by decide) ?_
          obtain ⟨n25, hnn25, hin25⟩ := hw
          exact ih4 n25 hnn25 _ _ hin25 _ _ _ hI (lv_sub hl [1, 2, 0] rfl)
        · replace hw := hw.2 (bi_n c24)
          refine lv_iconst (v := nI 1) E.1 E.2.1 dX4_hasAny_28 rfl ?_
          exact hv_iretz (b := true) E hr hlocks hI (Nat.le_refl 0) rfl hw dX4_hasAny_29
  exact L5 n7 _ _ hi27 _ _ _ hI (lv_sub hl [2, 3, 0] rfl)
/-- CaseGrouper$Seen.holds(LCaseGrouper$Atom;)Z -/
def wp_X4_holds (G : GP) (post : Bool → HS → Prop) (y0 : HS) (a0 : Nat) (p1 : Option Nat) : Prop := ∃ J1 : HS → Int32 → Prop, (∀ (y3 : HS) (x4 : Int32), J1 y3 x4 → (x4 = nI 0 → ∃ a6, p1 = some a6 ∧ ∃ f7, fR y3 a6 13 1 f7 ∧ ∃ f8, fR y3 a0 2 1 f8 ∧ ∃ a9, f8 = some a9 ∧ ∃ f10, fI y3 a9 17 0 f10 ∧ ∃ a11, f7 = some a11 ∧ (∃ fs14, rd G y3 a11 (ob 8 fs14)) ∧ wp_X10_has G (fun b13 y12 => (b13 = true → post true y12) ∧ (b13 = false → ∃ f16, fR y12 a0 2 1 f16 ∧ ∃ a17, f16 = some a17 ∧ ∃ f18, fR y12 a17 17 3 f18 ∧ ∃ f19, fR y12 a6 13 1 f19 ∧ (∃ fs22, rd G y12 a0 (ob 2 fs22)) ∧ wp_X4_hasAny G (fun b21 y20 => (b21 = false → post false y20) ∧ (b21 = true → post true y20)) y12 a0 f18 f19)) y3 a11 f10) ∧ (¬ x4 = nI 0 → (x4 = nI 1 → ∃ a25, p1 = some a25 ∧ ∃ f26, fR y3 a25 13 1 f26 ∧ ∃ f27, fR y3 a0 2 1 f27 ∧ ∃ a28, f27 = some a28 ∧ ∃ f29, fI y3 a28 17 0 f29 ∧ ∃ a30, f26 = some a30 ∧ (∃ fs33, rd G y3 a30 (ob 8 fs33)) ∧ wp_X10_has G (fun b32 y31 => post b32 y31) y3 a30 f29) ∧ (¬ x4 = nI 1 → (x4 = nI 2 → ∃ f35, fR y3 a0 2 1 f35 ∧ ∃ a36, f35 = some a36 ∧ ∃ f37, fR y3 a36 17 4 f37 ∧ ∃ a38, p1 = some a38 ∧ ∃ f39, fR y3 a38 13 1 f39 ∧ (∃ fs42, rd G y3 a0 (ob 2 fs42)) ∧ wp_X4_hasAny G (fun b41 y40 => post b41 y40) y3 a0 f37 f39) ∧ (¬ x4 = nI 2 → (x4 = nI 3 → ∃ f44, fR y3 a0 2 1 f44 ∧ ∃ a45, f44 = some a45 ∧ ∃ f46, fI y3 a45 17 1 f46 ∧ wp_X3_compares G (fun b48 y47 => post b48 y47) y3 p1 f46) ∧ (¬ x4 = nI 3 → (x4 = nI 4 → ∃ f50, fR y3 a0 2 1 f50 ∧ ∃ a51, f50 = some a51 ∧ ∃ f52, fI y3 a51 17 2 f52 ∧ wp_X3_compares G (fun b54 y53 => post b54 y53) y3 p1 f52) ∧ (¬ x4 = nI 4 → (x4 = nI 5 → ∃ f56, fI y3 a0 2 4 f56 ∧ wp_X3_compares G (fun b58 y57 => post b58 y57) y3 p1 f56) ∧ (¬ x4 = nI 5 → ∃ f59, fI y3 a0 2 3 f59 ∧ wp_X3_compares G (fun b61 y60 => post b61 y60) y3 p1 f59))))))) ∧ (∃ a62, p1 = some a62 ∧ ∃ f63, fR y0 a62 13 0 f63 ∧ ∃ a64, f63 = some a64 ∧ (∃ fs67, rd G y0 a64 (ob 20 fs67)) ∧ wp_J5_hashCode G (fun x66 y65 => (x66 = nI 96511 → (∃ fs71, rd G y65 a64 (ob 20 fs71)) ∧ wp_J5_equals G (fun b70 y69 => (b70 = false → J1 y69 ((-1))) ∧ (b70 = true → J1 y69 (nI 3))) y65 a64 (some (gK G 0))) ∧ (¬ x66 = nI 96511 → (x66 = nI 99455 → (∃ fs76, rd G y65 a64 (ob 20 fs76)) ∧ wp_J5_equals G (fun b75 y74 => (b75 = false → J1 y74 ((-1))) ∧ (b75 = true → J1 y74 (nI 2))) y65 a64 (some (gK G 6))) ∧ (¬ x66 = nI 99455 → (x66 = nI 103066 → (∃ fs81, rd G y65 a64 (ob 20 fs81)) ∧ wp_J5_equals G (fun b80 y79 => (b80 = false → J1 y79 ((-1))) ∧ (b80 = true → J1 y79 (nI 0))) y65 a64 (some (gK G 8))) ∧ (¬ x66 = nI 103066 → (x66 = nI 3076183 → (∃ fs86, rd G y65 a64 (ob 20 fs86)) ∧ wp_J5_equals G (fun b85 y84 => (b85 = false → J1 y84 ((-1))) ∧ (b85 = true → J1 y84 (nI 4))) y65 a64 (some (gK G 5))) ∧ (¬ x66 = nI 3076183 → (x66 = nI 3343801 → (∃ fs91, rd G y65 a64 (ob 20 fs91)) ∧ wp_J5_equals G (fun b90 y89 => (b90 = false → J1 y89 ((-1))) ∧ (b90 = true → J1 y89 (nI 1))) y65 a64 (some (gK G 11))) ∧ (¬ x66 = nI 3343801 → (x66 = nI 102865796 → (∃ fs96, rd G y65 a64 (ob 20 fs96)) ∧ wp_J5_equals G (fun b95 y94 => (b95 = false → J1 y94 ((-1))) ∧ (b95 = true → J1 y94 (nI 5))) y65 a64 (some (gK G 10))) ∧ (¬ x66 = nI 102865796 → J1 y65 ((-1))))))))) y0 a64)
theorem hs_X4_holds : yX4_holds.cls ≠ "java/lang/invoke/MethodHandle" ∧ yX4_holds.cls ≠ "java/lang/invoke/VarHandle" ∧ (parseMethodDescriptor yX4_holds.desc).map (fun d => d.parameters.length) = some 1 := by decide +kernel
theorem hd_X4_holds : yX4_holds.cls = RX4 ∧ yX4_holds.cls ≠ "java/lang/invoke/MethodHandle" ∧ yX4_holds.cls ≠ "java/lang/invoke/VarHandle" ∧ (parseMethodDescriptor yX4_holds.desc).map (fun d => d.parameters.length) = some 1 := by decide +kernel
set_option maxHeartbeats 4000000 in
theorem met_X4_holds (l : Launch) (G : GP) (d : Nat) {post : Bool → HS → Prop} {y0 : HS} {a0 : Nat} {p1 : Option Nat} (hw : wp_X4_holds G post y0 a0 p1) : vx_Met l yX4_holds (ws_ yX4_holds cX4_holds 4 (some .boolean)) (rmB (d + 4) 0) (hPc G y0 [va_rf (some a0), va_rf p1]) (hQz G y0 post) (hX G y0 (fun _ _ _ => False)) 0 (20 * 0) (HA y0) := by
  unfold wp_X4_holds at hw
  refine hv_met (own := RX4) (by decide) rfl (by simp [lg_sl, va_rf_cat, int_cat, long_cat]) ?_
  intro p e s m args below meth c ls E hr hlocks hnm hE hK hI hl
  replace hl : lv_has ls 4 [(0, va_rf (some a0)), (1, va_rf p1)] := by simpa [lv_args, va_rf_cat, int_cat, long_cat] using hl
  obtain ⟨J1, hj98, hw⟩ := hw
  have jh2 : ∀ (y3 : HS) (x4 : Int32), J1 y3 x4 → ∀ (H : Heap) (locs : List Loc) (ls : Array Slot), HI G y0 y3 s H locs → lv_has ls 4 [(0, va_rf (some a0)), (1, va_rf p1), (3, .int (x4))] → W p l e (rmB (d + 4) 0) s m args below meth c H locs 0 (20 * 0) (vx_MQ below (hQz G y0 post) (hX G y0 (fun _ _ _ => False)) args s 0 (20 * 0) (HA y0)) (F0 m 149 ls []) := by
    intro y3 x4 hw H locs ls hI hl
    replace hw := hj98 y3 x4 hw
    refine lv_iload_n E.1 E.2.1 dX4_holds_149 rfl (lv_at hl 2 rfl) ?_
    by_cases c5 : x4 = nI 0
    · replace hw := hw.1 c5
      have hti : x4.toInt = 0 := by rw [c5]; decide
      refine lv_tableIn (tgt := 188) (off := 38) E.1 E.2.1 dX4_holds_150 (by rw [hti]; decide) (by rw [hti]; decide) (by rw [hti]; rfl) (by decide) ?_
      refine hv_aload_n (r := p1) E.1 E.2.1 dX4_holds_188 rfl (lv_at hl 1 rfl) ?_
      obtain ⟨a6, ea6, hw⟩ := hw
      revert hl hw; subst ea6; intro hl hw
      obtain ⟨f7, ⟨fs, hfs, hfk⟩, hw⟩ := hw
      refine hv_getN (v := va_rf f7) E hK hI ciX15 1 (Nat.le_of_ble_eq_true rfl) q1159 (fun _ h => h) (Or.inl hfs) hfk dX4_holds_189 ?_
      refine hv_aload_n (r := some a0) E.1 E.2.1 dX4_holds_192 rfl (lv_at hl 0 rfl) ?_
      obtain ⟨f8, ⟨fs, hfs, hfk⟩, hw⟩ := hw
      refine hv_get (v := va_rf f8) E hK hI ciX4 1 (Nat.le_of_ble_eq_true rfl) q1389 (fun _ h => h) (Or.inl hfs) hfk dX4_holds_193 ?_
      obtain ⟨a9, ea9, hw⟩ := hw
      revert hl hw; subst ea9; intro hl hw
      obtain ⟨f10, ⟨fs, hfs, hfk⟩, hw⟩ := hw
      refine hv_getN (v := .int f10) E hK hI ciX19 0 (Nat.le_of_ble_eq_true rfl) q1463 (fun _ h => h) (Or.inl hfs) hfk dX4_holds_196 ?_
      obtain ⟨a11, ea11, hw⟩ := hw
      revert hl hw; subst ea11; intro hl hw
      obtain ⟨⟨fs14, hrv⟩, hw⟩ := hw
      have hq := hw
      clear hw
      refine hv_callz (u := 0) (B1 := 0) hI (vx_runV (As := [.int (f10)]) (rest := []) E (met_X10_has l G (d + 2) hq) (cwV 1 E.2.2.2.2 (lw_V q1318 q1319 q1320 q154 q1321) rfl rfl rfl hd_X10_has (rm_ok (by omega) (by decide))) (hv_preV hK hI hrv rfl) rfl rfl hl.1 rfl (lv_room (by first | rfl | decide | (simp [va_rf_cat, int_cat, long_cat]; done) | (simp [va_rf_cat, int_cat, long_cat]; decide))) dX4_holds_199 (hv_fit (by first | exact (Nat.le_refl 0) | omega))) (fun _ _ _ _ _ h => h.elim) (fun b13 y12 H locs hw hI => ?_)
      refine lv_if_ne (tgt := 223) E.1 E.2.1 dX4_holds_202 (by decide) (fun c15 => ?_) (fun c15 => ?_)
      · replace hw := hw.1 (bi_n c15)
        refine lv_iconst (v := nI 1) E.1 E.2.1 dX4_holds_223 rfl ?_
        refine lv_goto (tgt := 228) E.1 E.2.1 dX4_holds_224 (by decide) ?_
        exact hv_iretz (b := true) E hr hlocks hI (Nat.le_refl 0) rfl hw dX4_holds_228
      · replace hw := hw.2 (bi_z c15)
        refine hv_aload_n (r := some a0) E.1 E.2.1 dX4_holds_205 rfl (lv_at hl 0 rfl) ?_
        refine hv_aload_n (r := some a0) E.1 E.2.1 dX4_holds_206 rfl (lv_at hl 0 rfl) ?_
        obtain ⟨f16, ⟨fs, hfs, hfk⟩, hw⟩ := hw
        refine hv_get (v := va_rf f16) E hK hI ciX4 1 (Nat.le_of_ble_eq_true rfl) q1389 (fun _ h => h) (Or.inl hfs) hfk dX4_holds_207 ?_
        obtain ⟨a17, ea17, hw⟩ := hw
        revert hl hw; subst ea17; intro hl hw
        obtain ⟨f18, ⟨fs, hfs, hfk⟩, hw⟩ := hw
        refine hv_getN (v := va_rf f18) E hK hI ciX19 3 (Nat.le_of_ble_eq_true rfl) q1470 (fun _ h => h) (Or.inl hfs) hfk dX4_holds_210 ?_
        refine hv_aload_n (r := some a6) E.1 E.2.1 dX4_holds_213 rfl (lv_at hl 1 rfl) ?_
        obtain ⟨f19, ⟨fs, hfs, hfk⟩, hw⟩ := hw
        refine hv_getN (v := va_rf f19) E hK hI ciX15 1 (Nat.le_of_ble_eq_true rfl) q1159 (fun _ h => h) (Or.inl hfs) hfk dX4_holds_214 ?_
        obtain ⟨⟨fs22, hrv⟩, hw⟩ := hw
        have hq := hw
        clear hw
        refine hv_callz (u := 0) (B1 := 0) hI (vx_runV (As := [va_rf f18, va_rf f19]) (rest := []) E (met_X4_hasAny l G (d) hq) (cwV 2 E.2.2.2.2 (lw_V q1323 q1325 qs43 q127 q1327) rfl rfl rfl hd_X4_hasAny (rm_ok (by omega) (by decide))) (hv_preV hK hI hrv rfl) rfl rfl hl.1 rfl (lv_room (by first | rfl | decide | (simp [va_rf_cat, int_cat, long_cat]; done) | (simp [va_rf_cat, int_cat, long_cat]; decide))) dX4_holds_217 (hv_fit (by first | exact (Nat.le_refl 0) | omega))) (fun _ _ _ _ _ h => h.elim) (fun b21 y20 H locs hw hI => ?_)
        refine lv_if_eq (tgt := 227) E.1 E.2.1 dX4_holds_220 (by decide) (fun c23 => ?_) (fun c23 => ?_)
        · replace hw := hw.1 (bi_z c23)
          refine lv_iconst (v := nI 0) E.1 E.2.1 dX4_holds_227 rfl ?_
          exact hv_iretz (b := false) E hr hlocks hI (Nat.le_refl 0) rfl hw dX4_holds_228
        · replace hw := hw.2 (bi_n c23)
          refine lv_iconst (v := nI 1) E.1 E.2.1 dX4_holds_223 rfl ?_
          refine lv_goto (tgt := 228) E.1 E.2.1 dX4_holds_224 (by decide) ?_
          exact hv_iretz (b := true) E hr hlocks hI (Nat.le_refl 0) rfl hw dX4_holds_228
    replace hw := hw.2 c5
    by_cases c24 : x4 = nI 1
    · replace hw := hw.1 c24
      have hti : x4.toInt = 1 := by rw [c24]; decide
      refine lv_tableIn (tgt := 229) (off := 79) E.1 E.2.1 dX4_holds_150 (by rw [hti]; decide) (by rw [hti]; decide) (by rw [hti]; rfl) (by decide) ?_
      refine hv_aload_n (r := p1) E.1 E.2.1 dX4_holds_229 rfl (lv_at hl 1 rfl) ?_
      obtain ⟨a25, ea25, hw⟩ := hw
      revert hl hw; subst ea25; intro hl hw
      obtain ⟨f26, ⟨fs, hfs, hfk⟩, hw⟩ := hw
      refine hv_getN (v := va_rf f26) E hK hI ciX15 1 (Nat.le_of_ble_eq_true rfl) q1159 (fun _ h => h) (Or.inl hfs) hfk dX4_holds_230 ?_
      refine hv_aload_n (r := some a0) E.1 E.2.1 dX4_holds_233 rfl (lv_at hl 0 rfl) ?_
      obtain ⟨f27, ⟨fs, hfs, hfk⟩, hw⟩ := hw
      refine hv_get (v := va_rf f27) E hK hI ciX4 1 (Nat.le_of_ble_eq_true rfl) q1389 (fun _ h => h) (Or.inl hfs) hfk dX4_holds_234 ?_
      obtain ⟨a28, ea28, hw⟩ := hw
      revert hl hw; subst ea28; intro hl hw
      obtain ⟨f29, ⟨fs, hfs, hfk⟩, hw⟩ := hw
      refine hv_getN (v := .int f29) E hK hI ciX19 0 (Nat.le_of_ble_eq_true rfl) q1463 (fun _ h => h) (Or.inl hfs) hfk dX4_holds_237 ?_
      obtain ⟨a30, ea30, hw⟩ := hw
      revert hl hw; subst ea30; intro hl hw
      obtain ⟨⟨fs33, hrv⟩, hw⟩ := hw
      have hq := hw
      clear hw
      refine hv_callz (u := 0) (B1 := 0) hI (vx_runV (As := [.int (f29)]) (rest := []) E (met_X10_has l G (d + 2) hq) (cwV 1 E.2.2.2.2 (lw_V q1318 q1319 q1320 q154 q1321) rfl rfl rfl hd_X10_has (rm_ok (by omega) (by decide))) (hv_preV hK hI hrv rfl) rfl rfl hl.1 rfl (lv_room (by first | rfl | decide | (simp [va_rf_cat, int_cat, long_cat]; done) | (simp [va_rf_cat, int_cat, long_cat]; decide))) dX4_holds_240 (hv_fit (by first | exact (Nat.le_refl 0) | omega))) (fun _ _ _ _ _ h => h.elim) (fun b32 y31 H locs hw hI => ?_)
      exact hv_iretz (b := b32) E hr hlocks hI (Nat.le_refl 0) rfl hw dX4_holds_243
    replace hw := hw.2 c24
    by_cases c34 : x4 = nI 2
    · replace hw := hw.1 c34
      have hti : x4.toInt = 2 := by rw [c34]; decide
      refine lv_tableIn (tgt := 244) (off := 94) E.1 E.2.1 dX4_holds_150 (by rw [hti]; decide) (by rw [hti]; decide) (by rw [hti]; rfl) (by decide) ?_
      refine hv_aload_n (r := some a0) E.1 E.2.1 dX4_holds_244 rfl (lv_at hl 0 rfl) ?_
      refine hv_aload_n (r := some a0) E.1 E.2.1 dX4_holds_245 rfl (lv_at hl 0 rfl) ?_
      obtain ⟨f35, ⟨fs, hfs, hfk⟩, hw⟩ := hw
      refine hv_get (v := va_rf f35) E hK hI ciX4 1 (Nat.le_of_ble_eq_true rfl) q1389 (fun _ h => h) (Or.inl hfs) hfk dX4_holds_246 ?_
      obtain ⟨a36, ea36, hw⟩ := hw
      revert hl hw; subst ea36; intro hl hw
      obtain ⟨f37, ⟨fs, hfs, hfk⟩, hw⟩ := hw
      refine hv_getN (v := va_rf f37) E hK hI ciX19 4 (Nat.le_of_ble_eq_true rfl) q1473 (fun _ h => h) (Or.inl hfs) hfk dX4_holds_249 ?_
      refine hv_aload_n (r := p1) E.1 E.2.1 dX4_holds_252 rfl (lv_at hl 1 rfl) ?_
      obtain ⟨a38, ea38, hw⟩ := hw
      revert hl hw; subst ea38; intro hl hw
      obtain ⟨f39, ⟨fs, hfs, hfk⟩, hw⟩ := hw
      refine hv_getN (v := va_rf f39) E hK hI ciX15 1 (Nat.le_of_ble_eq_true rfl) q1159 (fun _ h => h) (Or.inl hfs) hfk dX4_holds_253 ?_
      obtain ⟨⟨fs42, hrv⟩, hw⟩ := hw
      have hq := hw
      clear hw
      refine hv_callz (u := 0) (B1 := 0) hI (vx_runV (As := [va_rf f37, va_rf f39]) (rest := []) E (met_X4_hasAny l G (d) hq) (cwV 2 E.2.2.2.2 (lw_V q1323 q1325 qs43 q127 q1327) rfl rfl rfl hd_X4_hasAny (rm_ok (by omega) (by decide))) (hv_preV hK hI hrv rfl) rfl rfl hl.1 rfl (lv_room (by first | rfl | decide | (simp [va_rf_cat, int_cat, long_cat]; done) | (simp [va_rf_cat, int_cat, long_cat]; decide))) dX4_holds_256 (hv_fit (by first | exact (Nat.le_refl 0) | omega))) (fun _ _ _ _ _ h => h.elim) (fun b41 y40 H locs hw hI => ?_)
      exact hv_iretz (b := b41) E hr hlocks hI (Nat.le_refl 0) rfl hw dX4_holds_259
    replace hw := hw.2 c34
    by_cases c43 : x4 = nI 3
    · replace hw := hw.1 c43
      have hti : x4.toInt = 3 := by rw [c43]; decide
      refine lv_tableIn (tgt := 260) (off := 110) E.1 E.2.1 dX4_holds_150 (by rw [hti]; decide) (by rw [hti]; decide) (by rw [hti]; rfl) (by decide) ?_
      refine hv_aload_n (r := p1) E.1 E.2.1 dX4_holds_260 rfl (lv_at hl 1 rfl) ?_
      refine hv_aload_n (r := some a0) E.1 E.2.1 dX4_holds_261 rfl (lv_at hl 0 rfl) ?_
      obtain ⟨f44, ⟨fs, hfs, hfk⟩, hw⟩ := hw
      refine hv_get (v := va_rf f44) E hK hI ciX4 1 (Nat.le_of_ble_eq_true rfl) q1389 (fun _ h => h) (Or.inl hfs) hfk dX4_holds_262 ?_
      obtain ⟨a45, ea45, hw⟩ := hw
      revert hl hw; subst ea45; intro hl hw
      obtain ⟨f46, ⟨fs, hfs, hfk⟩, hw⟩ := hw
      refine hv_getN (v := .int f46) E hK hI ciX19 1 (Nat.le_of_ble_eq_true rfl) q1465 (fun _ h => h) (Or.inl hfs) hfk dX4_holds_265 ?_
      have hq := hw
      clear hw
      refine hv_callz (u := 0) (B1 := 0) hI (vx_runSI (x := ⟨"CaseGrouper$Seen", "compares", "(LCaseGrouper$Atom;I)Z"⟩) (As := [va_rf p1, .int (f46)]) (rest := []) E (met_X3_compares l G (d + 3) hq) (lw_meth q1335) rfl rfl (rm_ok (by omega) (by decide)) q1332 q1333 ⟨rfl, rfl⟩ q1334 q126 hs_X3_compares (hv_preS hK hI) rfl rfl hl.1 rfl (lv_room (by first | rfl | decide | (simp [va_rf_cat, int_cat, long_cat]; done) | (simp [va_rf_cat, int_cat, long_cat]; decide))) dX4_holds_268 (hv_fit (by first | exact (Nat.le_refl 0) | omega))) (fun _ _ _ _ _ h => h.elim) (fun b48 y47 H locs hw hI => ?_)
      exact hv_iretz (b := b48) E hr hlocks hI (Nat.le_refl 0) rfl hw dX4_holds_271
    replace hw := hw.2 c43
    by_cases c49 : x4 = nI 4
    · replace hw := hw.1 c49
      have hti : x4.toInt = 4 := by rw [c49]; decide
      refine lv_tableIn (tgt := 272) (off := 122) E.1 E.2.1 dX4_holds_150 (by rw [hti]; decide) (by rw [hti]; decide) (by rw [hti]; rfl) (by decide) ?_
      refine hv_aload_n (r := p1) E.1 E.2.1 dX4_holds_272 rfl (lv_at hl 1 rfl) ?_
      refine hv_aload_n (r := some a0) E.1 E.2.1 dX4_holds_273 rfl (lv_at hl 0 rfl) ?_
      obtain ⟨f50, ⟨fs, hfs, hfk⟩, hw⟩ := hw
      refine hv_get (v := va_rf f50) E hK hI ciX4 1 (Nat.le_of_ble_eq_true rfl) q1389 (fun _ h => h) (Or.inl hfs) hfk dX4_holds_274 ?_
      obtain ⟨a51, ea51, hw⟩ := hw
      revert hl hw; subst ea51; intro hl hw
      obtain ⟨f52, ⟨fs, hfs, hfk⟩, hw⟩ := hw
      refine hv_getN (v := .int f52) E hK hI ciX19 2 (Nat.le_of_ble_eq_true rfl) q1467 (fun _ h => h) (Or.inl hfs) hfk dX4_holds_277 ?_
      have hq := hw
      clear hw
      refine hv_callz (u := 0) (B1 := 0) hI (vx_runSI (x := ⟨"CaseGrouper$Seen", "compares", "(LCaseGrouper$Atom;I)Z"⟩) (As := [va_rf p1, .int (f52)]) (rest := []) E (met_X3_compares l G (d + 3) hq) (lw_meth q1335) rfl rfl (rm_ok (by omega) (by decide)) q1332 q1333 ⟨rfl, rfl⟩ q1334 q126 hs_X3_compares (hv_preS hK hI) rfl rfl hl.1 rfl (lv_room (by first | rfl | decide | (simp [va_rf_cat, int_cat, long_cat]; done) | (simp [va_rf_cat, int_cat, long_cat]; decide))) dX4_holds_280 (hv_fit (by first | exact (Nat.le_refl 0) | omega))) (fun _ _ _ _ _ h => h.elim) (fun b54 y53 H locs hw hI => ?_)
      exact hv_iretz (b := b54) E hr hlocks hI (Nat.le_refl 0) rfl hw dX4_holds_283
    replace hw := hw.2 c49
    by_cases c55 : x4 = nI 5
    · replace hw := hw.1 c55
      have hti : x4.toInt = 5 := by rw [c55]; decide
      refine lv_tableIn (tgt := 284) (off := 134) E.1 E.2.1 dX4_holds_150 (by rw [hti]; decide) (by rw [hti]; decide) (by rw [hti]; rfl) (by decide) ?_
      refine hv_aload_n (r := p1) E.1 E.2.1 dX4_holds_284 rfl (lv_at hl 1 rfl) ?_
      refine hv_aload_n (r := some a0) E.1 E.2.1 dX4_holds_285 rfl (lv_at hl 0 rfl) ?_
      obtain ⟨f56, ⟨fs, hfs, hfk⟩, hw⟩ := hw
      refine hv_get (v := .int f56) E hK hI ciX4 4 (Nat.le_of_ble_eq_true rfl) q1394 (fun _ h => h) (Or.inl hfs) hfk dX4_holds_286 ?_
      have hq := hw
      clear hw
      refine hv_callz (u := 0) (B1 := 0) hI (vx_runSI (x := ⟨"CaseGrouper$Seen", "compares", "(LCaseGrouper$Atom;I)Z"⟩) (As := [va_rf p1, .int (f56)]) (rest := []) E (met_X3_compares l G (d + 3) hq) (lw_meth q1335) rfl rfl (rm_ok (by omega) (by decide)) q1332 q1333 ⟨rfl, rfl⟩ q1334 q126 hs_X3_compares (hv_preS hK hI) rfl rfl hl.1 rfl (lv_room (by first | rfl | decide | (simp [va_rf_cat, int_cat, long_cat]; done) | (simp [va_rf_cat, int_cat, long_cat]; decide))) dX4_holds_289 (hv_fit (by first | exact (Nat.le_refl 0) | omega))) (fun _ _ _ _ _ h => h.elim) (fun b58 y57 H locs hw hI => ?_)
      exact hv_iretz (b := b58) E hr hlocks hI (Nat.le_refl 0) rfl hw dX4_holds_292
    replace hw := hw.2 c55
    refine lv_tableOut (tgt := 293) E.1 E.2.1 dX4_holds_150 (tab_out (fun j h1 h2 h3 => ?_)) (by decide) ?_
    · have hj : j = 0 ∨ j = 1 ∨ j = 2 ∨ j = 3 ∨ j = 4 ∨ j = 5 := by omega
      rcases hj with rfl | rfl | rfl | rfl | rfl | rfl
      · exact c5 (Int32.toInt_inj.mp (by rw [h3]; decide))
      · exact c24 (Int32.toInt_inj.mp (by rw [h3]; decide))
      · exact c34 (Int32.toInt_inj.mp (by rw [h3]; decide))
      · exact c43 (Int32.toInt_inj.mp (by rw [h3]; decide))
      · exact c49 (Int32.toInt_inj.mp (by rw [h3]; decide))
      · exact c55 (Int32.toInt_inj.mp (by rw [h3]; decide))
    · skip
      refine hv_aload_n (r := p1) E.1 E.2.1 dX4_holds_293 rfl (lv_at hl 1 rfl) ?_
      refine hv_aload_n (r := some a0) E.1 E.2.1 dX4_holds_294 rfl (lv_at hl 0 rfl) ?_
      obtain ⟨f59, ⟨fs, hfs, hfk⟩, hw⟩ := hw
      refine hv_get (v := .int f59) E hK hI ciX4 3 (Nat.le_of_ble_eq_true rfl) q1392 (fun _ h => h) (Or.inl hfs) hfk dX4_holds_295 ?_
      have hq := hw
      clear hw
      refine hv_callz (u := 0) (B1 := 0) hI (vx_runSI (x := ⟨"CaseGrouper$Seen", "compares", "(LCaseGrouper$Atom;I)Z"⟩) (As := [va_rf p1, .int (f59)]) (rest := []) E (met_X3_compares l G (d + 3) hq) (lw_meth q1335) rfl rfl (rm_ok (by omega) (by decide)) q1332 q1333 ⟨rfl, rfl⟩ q1334 q126 hs_X3_compares (hv_preS hK hI) rfl rfl hl.1 rfl (lv_room (by first | rfl | decide | (simp [va_rf_cat, int_cat, long_cat]; done) | (simp [va_rf_cat, int_cat, long_cat]; decide))) dX4_holds_298 (hv_fit (by first | exact (Nat.le_refl 0) | omega))) (fun _ _ _ _ _ h => h.elim) (fun b61 y60 H locs hw hI => ?_)
      exact hv_iretz (b := b61) E hr hlocks hI (Nat.le_refl 0) rfl hw dX4_holds_301
  refine hv_aload_n (r := p1) E.1 E.2.1 dX4_holds_0 rfl (lv_at hl 1 rfl) ?_
  obtain ⟨a62, ea62, hw⟩ := hw
  revert hl hw; subst ea62; intro hl hw
  obtain ⟨f63, ⟨fs, hfs, hfk⟩, hw⟩ := hw
  refine hv_getN (v := va_rf f63) E hK hI ciX15 0 (Nat.le_of_ble_eq_true rfl) q1157 (fun _ h => h) (Or.inl hfs) hfk dX4_holds_1 ?_
  refine hv_astore_n (r := f63) (lv' := [(2, va_rf f63), (0, va_rf (some a0)), (1, va_rf (some a62))]) E.1 E.2.1 dX4_holds_4 rfl hl (Nat.le_of_ble_eq_true rfl) (by first | rfl | decide | (simp [va_rf_cat, int_cat, long_cat]; done) | (simp [va_rf_cat, int_cat, long_cat]; decide)) (fun ls hl => ?_)
  refine lv_iconst (v := (-1)) E.1 E.2.1 dX4_holds_5 rfl ?_
  refine lv_istore_n (lv' := [(3, .int ((-1))), (2, va_rf f63), (0, va_rf (some a0)), (1, va_rf (some a62))]) E.1 E.2.1 dX4_holds_6 rfl hl (Nat.le_of_ble_eq_true rfl) (by first | rfl | decide | (simp [va_rf_cat, int_cat, long_cat]; done) | (simp [va_rf_cat, int_cat, long_cat]; decide)) (fun ls hl => ?_)
  refine hv_aload_n (r := f63) E.1 E.2.1 dX4_holds_7 rfl (lv_at hl 1 rfl) ?_
  obtain ⟨a64, ea64, hw⟩ := hw
  revert hl hw; subst ea64; intro hl hw
  obtain ⟨⟨fs67, hrv⟩, hw⟩ := hw
  have hq := hw
  clear hw
  refine hv_calli (u := 0) (B1 := 0) hI (vx_runV (As := []) (rest := []) E (met_J5_hashCode l G (d) hq) (cwV 0 E.2.2.2.2 (lw_V q1310 q683 q684 q132 q685) rfl rfl rfl hd_J5_hashCode (rm_ok (by omega) (by decide))) (hv_preV hK hI hrv rfl) rfl rfl hl.1 rfl (lv_room (by first | rfl | decide | (simp [va_rf_cat, int_cat, long_cat]; done) | (simp [va_rf_cat, int_cat, long_cat]; decide))) dX4_holds_8 (hv_fit (by first | exact (Nat.le_refl 0) | omega))) (fun _ _ _ _ _ h => h.elim) (fun x66 y65 H locs hw hI => ?_)
  by_cases c68 : x66 = nI 96511
  · replace hw := hw.1 c68
    have hti : x66.toInt = 96511 := by rw [c68]; decide
    refine lv_lookup (tgt := 110) (off := 99) E.1 E.2.1 dX4_holds_11 (by decide) (by rw [hti]; decide) (by decide) ?_
    refine hv_aload_n (r := some a64) E.1 E.2.1 dX4_holds_110 rfl (lv_at hl 1 rfl) ?_
    refine hv_ldcS E hK 27 0 rfl dX4_holds_111 ?_
    obtain ⟨⟨fs71, hrv⟩, hw⟩ := hw
    have hq := hw
    clear hw
    refine hv_callz (u := 0) (B1 := 0) hI (vx_runV (As := [va_rf (some (gK G 0))]) (rest := []) E (met_J5_equals l G (d + 2) hq) (cwV 1 E.2.2.2.2 (lw_V q1312 q737 q738 q132 q739) rfl rfl rfl hd_J5_equals (rm_ok (by omega) (by decide))) (hv_preV hK hI hrv rfl) rfl rfl hl.1 rfl (lv_room (by first | rfl | decide | (simp [va_rf_cat, int_cat, long_cat]; done) | (simp [va_rf_cat, int_cat, long_cat]; decide))) dX4_holds_113 (hv_fit (by first | exact (Nat.le_refl 0) | omega))) (fun _ _ _ _ _ h => h.elim) (fun b70 y69 H locs hw hI => ?_)
    refine lv_if_eq (tgt := 149) E.1 E.2.1 dX4_holds_116 (by decide) (fun c72 => ?_) (fun c72 => ?_)
    · replace hw := hw.1 (bi_z c72)
      exact jh2 _ _ hw _ _ _ hI (lv_sub hl [2, 3, 0] rfl)
    · replace hw := hw.2 (bi_n c72)
      refine lv_iconst (v := nI 3) E.1 E.2.1 dX4_holds_119 rfl ?_
      refine lv_istore_n (lv' := [(3, .int (nI 3)), (2, va_rf (some a64)), (0, va_rf (some a0)), (1, va_rf (some a62))]) E.1 E.2.1 dX4_holds_120 rfl hl (Nat.le_of_ble_eq_true rfl) (by first | rfl | decide | (simp [va_rf_cat, int_cat, long_cat]; done) | (simp [va_rf_cat, int_cat, long_cat]; decide)) (fun ls hl => ?_)
      refine lv_goto (tgt := 149) E.1 E.2.1 dX4_holds_121 (by decide) ?_
      exact jh2 _ _ hw _ _ _ hI (lv_sub hl [2, 3, 0] rfl)
  replace hw := hw.2 c68
  by_cases c73 : x66 = nI 99455
  · replace hw := hw.1 c73
    have hti : x66.toInt = 99455 := by rw [c73]; decide
    refine lv_lookup (tgt := 96) (off := 85) E.1 E.2.1 dX4_holds_11 (by decide) (by rw [hti]; decide) (by decide) ?_
    refine hv_aload_n (r := some a64) E.1 E.2.1 dX4_holds_96 rfl (lv_at hl 1 rfl) ?_
    refine hv_ldcS E hK 26 6 rfl dX4_holds_97 ?_
    obtain ⟨⟨fs76, hrv⟩, hw⟩ := hw
    have hq := hw
    clear hw
    refine hv_callz (u := 0) (B1 := 0) hI (vx_runV (As := [va_rf (some (gK G 6))]) (rest := []) E (met_J5_equals l G (d + 2) hq) (cwV 1 E.2.2.2.2 (lw_V q1312 q737 q738 q132 q739) rfl rfl rfl hd_J5_equals (rm_ok (by omega) (by decide))) (hv_preV hK hI hrv rfl) rfl rfl hl.1 rfl (lv_room (by first | rfl | decide | (simp [va_rf_cat, int_cat, long_cat]; done) | (simp [va_rf_cat, int_cat, long_cat]; decide))) dX4_holds_99 (hv_fit (by first | exact (Nat.le_refl 0) | omega))) (fun _ _ _ _ _ h => h.elim) (fun b75 y74 H locs hw hI => ?_)
    refine lv_if_eq (tgt := 149) E.1 E.2.1 dX4_holds_102 (by decide) (fun c77 => ?_) (fun c77 => ?_)
    · replace hw := hw.1 (bi_z c77)
      exact jh2 _ _ hw _ _ _ hI (lv_sub hl [2, 3, 0] rfl)
    · replace hw := hw.2 (bi_n c77)
      refine lv_iconst (v := nI 2) E.1 E.2.1 dX4_holds_105 rfl ?_
      refine lv_istore_n (lv' := [(3, .int (nI 2)), (2, va_rf (some a64)), (0, va_rf (some a0)), (1, va_rf (some a62))]) E.1 E.2.1 dX4_holds_106 rfl hl (Nat.le_of_ble_eq_true rfl) (by first | rfl | decide | (simp [va_rf_cat, int_cat, long_cat]; done) | (simp [va_rf_cat, int_cat, long_cat]; decide)) (fun ls hl => ?_)
      refine lv_goto (tgt := 149) E.1 E.2.1 dX4_holds_107 (by decide) ?_
      exact jh2 _ _ hw _ _ _ hI (lv_sub hl [2, 3, 0] rfl)
  replace hw := hw.2 c73
  by_cases c78 : x66 = nI 103066
  · replace hw := hw.1 c78
    have hti : x66.toInt = 103066 := by rw [c78]; decide
    refine lv_lookup (tgt := 68) (off := 57) E.1 E.2.1 dX4_holds_11 (by decide) (by rw [hti]; decide) (by decide) ?_
    refine hv_aload_n (r := some a64) E.1 E.2.1 dX4_holds_68 rfl (lv_at hl 1 rfl) ?_
    refine hv_ldcS E hK 24 8 rfl dX4_holds_69 ?_
    obtain ⟨⟨fs81, hrv⟩, hw⟩ := hw
    have hq := hw
    clear hw
    refine hv_callz (u := 0) (B1 := 0) hI (vx_runV (As := [va_rf (some (gK G 8))]) (rest := []) E (met_J5_equals l G (d + 2) hq) (cwV 1 E.2.2.2.2 (lw_V q1312 q737 q738 q132 q739) rfl rfl rfl hd_J5_equals (rm_ok (by omega) (by decide))) (hv_preV hK hI hrv rfl) rfl rfl hl.1 rfl (lv_room (by first | rfl | decide | (simp [va_rf_cat, int_cat, long_cat]; done) | (simp [va_rf_cat, int_cat, long_cat]; decide))) dX4_holds_71 (hv_fit (by first | exact (Nat.le_refl 0) | omega))) (fun _ _ _ _ _ h => h.elim) (fun b80 y79 H locs hw hI => ?_)
    refine lv_if_eq (tgt := 149) E.1 E.2.1 dX4_holds_74 (by decide) (fun c82 => ?_) (fun c82 => ?_)
    · replace hw := hw.1 (bi_z c82)
      exact jh2 _ _ hw _ _ _ hI (lv_sub hl [2, 3, 0] rfl)
    · replace hw := hw.2 (bi_n c82)
      refine lv_iconst (v := nI 0) E.1 E.2.1 dX4_holds_77 rfl ?_
      refine lv_istore_n (lv' := [(3, .int (nI 0)), (2, va_rf (some a64)), (0, va_rf (some a0)), (1, va_rf (some a62))]) E.1 E.2.1 dX4_holds_78 rfl hl (Nat.le_of_ble_eq_true rfl) (by first | rfl | decide | (simp [va_rf_cat, int_cat, long_cat]; done) | (simp [va_rf_cat, int_cat, long_cat]; decide)) (fun ls hl => ?_)
      refine lv_goto (tgt := 149) E.1 E.2.1 dX4_holds_79 (by decide) ?_
      exact jh2 _ _ hw _ _ _ hI (lv_sub hl [2, 3, 0] rfl)
  replace hw := hw.2 c78
  by_cases c83 : x66 = nI 3076183
  · replace hw := hw.1 c83
    have hti : x66.toInt = 3076183 := by rw [c83]; decide
    refine lv_lookup (tgt := 124) (off := 113) E.1 E.2.1 dX4_holds_11 (by decide) (by rw [hti]; decide) (by decide) ?_
    refine hv_aload_n (r := some a64) E.1 E.2.1 dX4_holds_124 rfl (lv_at hl 1 rfl) ?_
    refine hv_ldcS E hK 28 5 rfl dX4_holds_125 ?_
    obtain ⟨⟨fs86, hrv⟩, hw⟩ := hw
    have hq := hw
    clear hw
    refine hv_callz (u := 0) (B1 := 0) hI (vx_runV (As := [va_rf (some (gK G 5))]) (rest := []) E (met_J5_equals l G (d + 2) hq) (cwV 1 E.2.2.2.2 (lw_V q1312 q737 q738 q132 q739) rfl rfl rfl hd_J5_equals (rm_ok (by omega) (by decide))) (hv_preV hK hI hrv rfl) rfl rfl hl.1 rfl (lv_room (by first | rfl | decide | (simp [va_rf_cat, int_cat, long_cat]; done) | (simp [va_rf_cat, int_cat, long_cat]; decide))) dX4_holds_127 (hv_fit (by first | exact (Nat.le_refl 0) | omega))) (fun _ _ _ _ _ h => h.elim) (fun b85 y84 H locs hw hI => ?_)
    refine lv_if_eq (tgt := 149) E.1 E.2.1 dX4_holds_130 (by decide) (fun c87 => ?_) (fun c87 => ?_)
    · replace hw := hw.1 (bi_z c87)
      exact jh2 _ _ hw _ _ _ hI (lv_sub hl [2, 3, 0] rfl)
    · replace hw := hw.2 (bi_n c87)
      refine lv_iconst (v := nI 4) E.1 E.2.1 dX4_holds_133 rfl ?_
      refine lv_istore_n (lv' := [(3, .int (nI 4)), (2, va_rf (some a64)), (0, va_rf (some a0)), (1, va_rf (some a62))]) E.1 E.2.1 dX4_holds_134 rfl hl (Nat.le_of_ble_eq_true rfl) (by first | rfl | decide | (simp [va_rf_cat, int_cat, long_cat]; done) | (simp [va_rf_cat, int_cat, long_cat]; decide)) (fun ls hl => ?_)
      refine lv_goto (tgt := 149) E.1 E.2.1 dX4_holds_135 (by decide) ?_
      exact jh2 _ _ hw _ _ _ hI (lv_sub hl [2, 3, 0] rfl)
  replace hw := hw.2 c83
  by_cases c88 : x66 = nI 3343801
  · replace hw := hw.1 c88
    have hti : x66.toInt = 3343801 := by rw [c88]; decide
    refine lv_lookup (tgt := 82) (off := 71) E.1 E.2.1 dX4_holds_11 (by decide) (by rw [hti]; decide) (by decide) ?_
    refine hv_aload_n (r := some a64) E.1 E.2.1 dX4_holds_82 rfl (lv_at hl 1 rfl) ?_
    refine hv_ldcS E hK 25 11 rfl dX4_holds_83 ?_
    obtain ⟨⟨fs91, hrv⟩, hw⟩ := hw
    have hq := hw
    clear hw
    refine hv_callz (u := 0) (B1 := 0) hI (vx_runV (As := [va_rf (some (gK G 11))]) (rest := []) E (met_J5_equals l G (d + 2) hq) (cwV 1 E.2.2.2.2 (lw_V q1312 q737 q738 q132 q739) rfl rfl rfl hd_J5_equals (rm_ok (by omega) (by decide))) (hv_preV hK hI hrv rfl) rfl rfl hl.1 rfl (lv_room (by first | rfl | decide | (simp [va_rf_cat, int_cat, long_cat]; done) | (simp [va_rf_cat, int_cat, long_cat]; decide))) dX4_holds_85 (hv_fit (by first | exact (Nat.le_refl 0) | omega))) (fun _ _ _ _ _ h => h.elim) (fun b90 y89 H locs hw hI => ?_)
    refine lv_if_eq (tgt := 149) E.1 E.2.1 dX4_holds_88 (by decide) (fun c92 => ?_) (fun c92 => ?_)
    · replace hw := hw.1 (bi_z c92)
      exact jh2 _ _ hw _ _ _ hI (lv_sub hl [2, 3, 0] rfl)
    · replace hw := hw.2 (bi_n c92)
      refine lv_iconst (v := nI 1) E.1 E.2.1 dX4_holds_91 rfl ?_
      refine lv_istore_n (lv' := [(3, .int (nI 1)), (2, va_rf (some a64)), (0, va_rf (some a0)), (1, va_rf (some a62))]) E.1 E.2.1 dX4_holds_92 rfl hl (Nat.le_of_ble_eq_true rfl) (by first | rfl | decide | (simp [va_rf_cat, int_cat, long_cat]; done) | (simp [va_rf_cat, int_cat, long_cat]; decide)) (fun ls hl => ?_)
      refine lv_goto (tgt := 149) E.1 E.2.1 dX4_holds_93 (by decide) ?_
      exact jh2 _ _ hw _ _ _ hI (lv_sub hl [2, 3, 0] rfl)
  replace hw := hw.2 c88
  by_cases c93 : x66 = nI 102865796
  · replace hw := hw.1 c93
    have hti : x66.toInt = 102865796 := by rw [c93]; decide
    refine lv_lookup (tgt := 138) (off := 127) E.1 E.2.1 dX4_holds_11 (by decide) (by rw [hti]; decide) (by decide) ?_
    refine hv_aload_n (r := some a64) E.1 E.2.1 dX4_holds_138 rfl (lv_at hl 1 rfl) ?_
    refine hv_ldcS E hK 29 10 rfl dX4_holds_139 ?_
    obtain ⟨⟨fs96, hrv⟩, hw⟩ := hw
    have hq := hw
    clear hw
    refine hv_callz (u := 0) (B1 := 0) hI (vx_runV (As := [va_rf (some (gK G 10))]) (rest := []) E (met_J5_equals l G (d + 2) hq) (cwV 1 E.2.2.2.2 (lw_V q1312 q737 q738 q132 q739) rfl rfl rfl hd_J5_equals (rm_ok (by omega) (by decide))) (hv_preV hK hI hrv rfl) rfl rfl hl.1 rfl (lv_room (by first | rfl | decide | (simp [va_rf_cat, int_cat, long_cat]; done) | (simp [va_rf_cat, int_cat, long_cat]; decide))) dX4_holds_141 (hv_fit (by first | exact (Nat.le_refl 0) | omega))) (fun _ _ _ _ _ h => h.elim) (fun b95 y94 H locs hw hI => ?_)
    refine lv_if_eq (tgt := 149) E.1 E.2.1 dX4_holds_144 (by decide) (fun c97 => ?_) (fun c97 => ?_)
    · replace hw := hw.1 (bi_z c97)
      exact jh2 _ _ hw _ _ _ hI (lv_sub hl [2, 3, 0] rfl)
    · replace hw := hw.2 (bi_n c97)
      refine lv_iconst (v := nI 5) E.1 E.2.1 dX4_holds_147 rfl ?_
      refine lv_istore_n (lv' := [(3, .int (nI 5)), (2, va_rf (some a64)), (0, va_rf (some a0)), (1, va_rf (some a62))]) E.1 E.2.1 dX4_holds_148 rfl hl (Nat.le_of_ble_eq_true rfl) (by first | rfl | decide | (simp [va_rf_cat, int_cat, long_cat]; done) | (simp [va_rf_cat, int_cat, long_cat]; decide)) (fun ls hl => ?_)
      exact jh2 _ _ hw _ _ _ hI (lv_sub hl [2, 3, 0] rfl)
  replace hw := hw.2 c93
  refine lv_lookup (tgt := 149) (off := 138) E.1 E.2.1 dX4_holds_11 (by decide) ((lv_osw c68 (by decide)).trans ((lv_osw c73 (by decide)).trans ((lv_osw c78 (by decide)).trans ((lv_osw c83 (by decide)).trans ((lv_osw c88 (by decide)).trans ((lv_osw c93 (by decide)).trans rfl)))))) (by decide) ?_
  · skip
    exact jh2 _ _ hw _ _ _ hI (lv_sub hl [2, 3, 0] rfl)
/-- CaseGrouper$Facts.is(Ljava/lang/Object;)Z -/
def wb_X3_is_r2 (G : GP) (rc : (Bool → HS → Prop) → HS → Nat → (Option Nat) → Prop) (post : Bool → HS → Prop) (y0 : HS) (a0 : Nat) (p1 : Option Nat) : Prop := ∃ b1, isIn G y0 p1 13 b1 ∧ (b1 = false → ∃ J3 : HS → (Option Nat) → Int32 → Prop, (∀ (y5 : HS) (r6 : Option Nat) (x7 : Int32), J3 y5 r6 x7 → (x7 = nI 0 → ∃ a9, r6 = some a9 ∧ ∃ f10, fR y5 a9 12 1 f10 ∧ ∃ a11, f10 = some a11 ∧ (∃ fs14, rd G y5 a11 (ob 18 fs14)) ∧ wp_J2_get G (fun r13 y12 => (∃ fs17, rd G y12 a0 (ob 2 fs17)) ∧ rc (fun b16 y15 => (b16 = true → post false y15) ∧ (b16 = false → post true y15)) y12 a0 r13) y5 a11 (nI 0)) ∧ (¬ x7 = nI 0 → (x7 = nI 1 → ∃ I20 : Nat → HS → Int32 → Prop, (∃ n26, I20 n26 y5 (nI 0)) ∧ ∀ (n21 : Nat) (y22 : HS) (x25 : Int32), I20 n21 y22 x25 → ∃ a27, r6 = some a27 ∧ ∃ f28, fR y22 a27 12 1 f28 ∧ ∃ a29, f28 = some a29 ∧ (∃ fs32, rd G y22 a29 (ob 18 fs32)) ∧ wp_J2_size G (fun x31 y30 => (x31 ≤ x25 → post true y30) ∧ (¬ x31 ≤ x25 → ∃ f34, fR y30 a27 12 1 f34 ∧ ∃ a35, f34 = some a35 ∧ (∃ fs38, rd G y30 a35 (ob 18 fs38)) ∧ wp_J2_get G (fun r37 y36 => (∃ fs41, rd G y36 a0 (ob 2 fs41)) ∧ rc (fun b40 y39 => (b40 = true → ∃ n43, n43 < n21 ∧ I20 n43 y39 (x25 + nI 1)) ∧ (b40 = false → post false y39)) y36 a0 r37) y30 a35 x25)) y22 a29) ∧ (¬ x7 = nI 1 → ∃ I46 : Nat → HS → Int32 → Prop, (∃ n52, I46 n52 y5 (nI 0)) ∧ ∀ (n47 : Nat) (y48 : HS) (x51 : Int32), I46 n47 y48 x51 → ∃ a53, r6 = some a53 ∧ ∃ f54, fR y48 a53 12 1 f54 ∧ ∃ a55, f54 = some a55 ∧ (∃ fs58, rd G y48 a55 (ob 18 fs58)) ∧ wp_J2_size G (fun x57 y56 => (x57 ≤ x51 → post false y56) ∧ (¬ x57 ≤ x51 → ∃ f60, fR y56 a53 12 1 f60 ∧ ∃ a61, f60 = some a61 ∧ (∃ fs64, rd G y56 a61 (ob 18 fs64)) ∧ wp_J2_get G (fun r63 y62 => (∃ fs67, rd G y62 a0 (ob 2 fs67)) ∧ rc (fun b66 y65 => (b66 = false → ∃ n69, n69 < n47 ∧ I46 n69 y65 (x51 + nI 1)) ∧ (b66 = true → post true y65)) y62 a0 r63) y56 a61 x51)) y48 a55))) ∧ (isOf G y0 p1 12 ∧ ∃ a72, p1 = some a72 ∧ ∃ f73, fR y0 a72 12 0 f73 ∧ ∃ a74, f73 = some a74 ∧ (∃ fs77, rd G y0 a74 (ob 20 fs77)) ∧ wp_J5_hashCode G (fun x76 y75 => (x76 = nI 96727 → (∃ fs81, rd G y75 a74 (ob 20 fs81)) ∧ wp_J5_equals G (fun b80 y79 => (b80 = false → J3 y79 (some a72) ((-1))) ∧ (b80 = true → J3 y79 (some a72) (nI 1))) y75 a74 (some (gK G 1))) ∧ (¬ x76 = nI 96727 → (x76 = nI 109267 → (∃ fs86, rd G y75 a74 (ob 20 fs86)) ∧ wp_J5_equals G (fun b85 y84 => (b85 = false → J3 y84 (some a72) ((-1))) ∧ (b85 = true → J3 y84 (some a72) (nI 0))) y75 a74 (some (gK G 12))) ∧ (¬ x76 = nI 109267 → J3 y75 (some a72) ((-1))))) y0 a74)) ∧ (b1 = true → isOf G y0 p1 13 ∧ (∃ fs91, rd G y0 a0 (ob 2 fs91)) ∧ wp_X4_holds G (fun b90 y89 => post b90 y89) y0 a0 p1)
theorem hs_X3_is_r2 : yX3_is.cls ≠ "java/lang/invoke/MethodHandle" ∧ yX3_is.cls ≠ "java/lang/invoke/VarHandle" ∧ (parseMethodDescriptor yX3_is.desc).map (fun d => d.parameters.length) = some 1 := by decide +kernel
theorem hd_X3_is_r2 : yX3_is.cls = RX3 ∧ yX3_is.cls ≠ "java/lang/invoke/MethodHandle" ∧ yX3_is.cls ≠ "java/lang/invoke/VarHandle" ∧ (parseMethodDescriptor yX3_is.desc).map (fun d => d.parameters.length) = some 1 := by decide +kernel
def d_is2 : Nat := 41
def wp_is2 (G : GP) : Nat → (Bool → HS → Prop) → HS → Nat → (Option Nat) → Prop
  | 0 => fun _ _ _ _ => False
  | k + 1 => wb_X3_is_r2 G (wp_is2 G k)
set_option maxHeartbeats 4000000 in
theorem met_X3_is_r2 (l : Launch) (G : GP) (d : Nat) : ∀ (k : Nat) {post : Bool → HS → Prop} {y0 : HS} {a0 : Nat} {p1 : Option Nat}, wp_is2 G k post y0 a0 p1 → vx_Met l yX3_is (ws_ yX3_is cX3_is 6 (some .boolean)) (rmB (d + k + 5) 0) (hPc G y0 [va_rf (some a0), va_rf p1]) (hQz G y0 post) (hX G y0 (fun _ _ _ => False)) 0 (20 * 0) (HA y0) := by
  intro k
  induction k with
  | zero => intro post y0 a0 p1 hw; exact hw.elim
  | succ k ih =>
    intro post y0 a0 p1 hw
    replace hw : wb_X3_is_r2 G (wp_is2 G k) post y0 a0 p1 := hw
    unfold wb_X3_is_r2 at hw
    refine hv_met (own := RX3) (by decide) rfl (by simp [lg_sl, va_rf_cat, int_cat, long_cat]) ?_
    intro p e s m args below meth c ls E hr hlocks hnm hE hK hI hl
    replace hl : lv_has ls 6 [(0, va_rf (some a0)), (1, va_rf p1)] := by simpa [lv_args, va_rf_cat, int_cat, long_cat] using hl
    refine hv_aload_n (r := p1) E.1 E.2.1 dX3_is_0 rfl (lv_at hl 1 rfl) ?_
    obtain ⟨b1, hin, hw⟩ := hw
    refine hv_inst (cn := 13) E hK hI (by decide) q1303 hin dX3_is_1 ?_
    refine lv_if_eq (tgt := 18) E.1 E.2.1 dX3_is_4 (by decide) (fun c2 => ?_) (fun c2 => ?_)
    · replace hw := hw.1 (bi_z c2)
      obtain ⟨J3, hj88, hw⟩ := hw
      have jh4 : ∀ (y5 : HS) (r6 : Option Nat) (x7 : Int32), J3 y5 r6 x7 → ∀ (H : Heap) (locs : List Loc) (ls : Array Slot), HI G y0 y5 s H locs → lv_has ls 6 [(0, va_rf (some a0)), (2, va_rf r6), (4, .int (x7))] → W p l e (rmB (d + (k + 1) + 5) 0) s m args below meth c H locs 0 (20 * 0) (vx_MQ below (hQz G y0 post) (hX G y0 (fun _ _ _ => False)) args s 0 (20 * 0) (HA y0)) (F0 m 87 ls []) := by
        intro y5 r6 x7 hw H locs ls hI hl
        replace hw := hj88 y5 r6 x7 hw
        refine lv_iload E.1 E.2.1 dX3_is_87 (lv_at hl 2 rfl) ?_
        by_cases c8 : x7 = nI 0
        · replace hw := hw.1 c8
          have hti : x7.toInt = 0 := by rw [c8]; decide
          refine lv_lookup (tgt := 116) (off := 27) E.1 E.2.1 dX3_is_89 (by decide) (by rw [hti]; decide) (by decide) ?_
          refine hv_aload_n (r := some a0) E.1 E.2.1 dX3_is_116 rfl (lv_at hl 0 rfl) ?_
          refine hv_aload_n (r := r6) E.1 E.2.1 dX3_is_117 rfl (lv_at hl 1 rfl) ?_
          obtain ⟨a9, ea9, hw⟩ := hw
          revert hl hw; subst ea9; intro hl hw
          obtain ⟨f10, ⟨fs, hfs, hfk⟩, hw⟩ := hw
          refine hv_getN (v := va_rf f10) E hK hI ciX14 1 (Nat.le_of_ble_eq_true rfl) q1128 (fun _ h => h) (Or.inl hfs) hfk dX3_is_118 ?_
          refine lv_iconst (v := nI 0) E.1 E.2.1 dX3_is_121 rfl ?_
          obtain ⟨a11, ea11, hw⟩ := hw
          revert hl hw; subst ea11; intro hl hw
          obtain ⟨⟨fs14, hrv⟩, hw⟩ := hw
          have hq := hw
          clear hw
          refine hv_callq (u := 0) (B1 := 0) hI (vx_runV (As := [.int (nI 0)]) (rest := [va_rf (some a0)]) E (met_J2_get l G (d + k + 3) hq) (cwV 1 E.2.2.2.2 (lw_V q1351 q785 q786 q124 q787) rfl rfl rfl hd_J2_get (rm_ok (by omega) (by decide))) (hv_preV hK hI hrv rfl) rfl rfl hl.1 rfl (lv_room (by first | rfl | decide | (simp [va_rf_cat, int_cat, long_cat]; done) | (simp [va_rf_cat, int_cat, long_cat]; decide))) dX3_is_122 (hv_fit (by first | exact (Nat.le_refl 0) | omega))) (fun _ _ _ _ _ h => h.elim) (fun r13 y12 H locs hw hI => ?_)
          obtain ⟨⟨fs17, hrv⟩, hw⟩ := hw
          have hq := hw
          clear hw
          refine hv_callz (u := 0) (B1 := 0) hI (vx_runU (C := "CaseGrouper$Seen") (owner := "CaseGrouper$Facts") (x := ⟨"CaseGrouper$Facts", "is", "(Ljava/lang/Object;)Z"⟩) (As := [va_rf r13]) (rest := []) E (ih hq) (cw_any 1 E.2.2.2.2 (lw_meth q1302) rfl rfl q1297 q1299 (E.2.2.2.2 _ q1300) q1298 q126 (va_Decl.of (E.2.2.2.2 _ q1298) (E.2.2.2.2 _ q1302)) (by decide +kernel) (rm_ok (by omega) (by decide))) (hv_preV hK hI hrv rfl) rfl rfl hl.1 rfl (lv_room (by first | rfl | decide | (simp [va_rf_cat, int_cat, long_cat]; done) | (simp [va_rf_cat, int_cat, long_cat]; decide))) dX3_is_125 (hv_fit (by first | exact (Nat.le_refl 0) | omega))) (fun _ _ _ _ _ h => h.elim) (fun b16 y15 H locs hw hI => ?_)
          refine lv_if_ne (tgt := 135) E.1 E.2.1 dX3_is_128 (by decide) (fun c18 => ?_) (fun c18 => ?_)
          · replace hw := hw.1 (bi_n c18)
            refine lv_iconst (v := nI 0) E.1 E.2.1 dX3_is_135 rfl ?_
            exact hv_iretz (b := false) E hr hlocks hI (Nat.le_refl 0) rfl hw dX3_is_136
          · replace hw := hw.2 (bi_z c18)
            refine lv_iconst (v := nI 1) E.1 E.2.1 dX3_is_131 rfl ?_
            refine lv_goto (tgt := 136) E.1 E.2.1 dX3_is_132 (by decide) ?_
            exact hv_iretz (b := true) E hr hlocks hI (Nat.le_refl 0) rfl hw dX3_is_136
        replace hw := hw.2 c8
        by_cases c19 : x7 = nI 1
        · replace hw := hw.1 c19
          have hti : x7.toInt = 1 := by rw [c19]; decide
          refine lv_lookup (tgt := 137) (off := 48) E.1 E.2.1 dX3_is_89 (by decide) (by rw [hti]; decide) (by decide) ?_
          refine lv_iconst (v := nI 0) E.1 E.2.1 dX3_is_137 rfl ?_
          refine lv_istore (lv' := [(5, .int (nI 0)), (0, va_rf (some a0)), (2, va_rf r6), (4, .int (x7))]) E.1 E.2.1 dX3_is_138 hl (Nat.le_of_ble_eq_true rfl) (by first | rfl | decide | (simp [va_rf_cat, int_cat, long_cat]; done) | (simp [va_rf_cat, int_cat, long_cat]; decide)) (fun ls hl => ?_)
          obtain ⟨I20, ⟨n26, hi45⟩, hb44⟩ := hw
          have L24 : ∀ (n21 : Nat) (y22 : HS) (x25 : Int32), I20 n21 y22 x25 → ∀ (H : Heap) (locs : List Loc) (ls : Array Slot), HI G y0 y22 s H locs → lv_has ls 6 [(0, va_rf (some a0)), (2, va_rf r6), (5, .int (x25))] → W p l e (rmB (d + (k + 1) + 5) 0) s m args below meth c H locs 0 (20 * 0) (vx_MQ below (hQz G y0 post) (hX G y0 (fun _ _ _ => False)) args s 0 (20 * 0) (HA y0)) (F0 m 140 ls []) := by
            intro n21
            induction n21 using Nat.strongRecOn with
            | _ n21 ih23 =>
              intro y22 x25 hw H locs ls hI hl
              replace hw := hb44 n21 y22 x25 hw
              refine lv_iload E.1 E.2.1 dX3_is_140 (lv_at hl 2 rfl) ?_
              refine hv_aload_n (r := r6) E.1 E.2.1 dX3_is_142 rfl (lv_at hl 1 rfl) ?_
              obtain ⟨a27, ea27, hw⟩ := hw
              revert hl hw; subst ea27; intro hl hw
              obtain ⟨f28, ⟨fs, hfs, hfk⟩, hw⟩ := hw
              refine hv_getN (v := va_rf f28) E hK hI ciX14 1 (Nat.le_of_ble_eq_true rfl) q1128 (fun _ h => h) (Or.inl hfs) hfk dX3_is_143 ?_
              obtain ⟨a29, ea29, hw⟩ := hw
              revert hl hw; subst ea29; intro hl hw
              obtain ⟨⟨fs32, hrv⟩, hw⟩ := hw
              have hq := hw
              clear hw
              refine hv_calli (u := 0) (B1 := 0) hI (vx_runV (As := []) (rest := [.int (x25)]) E (met_J2_size l G (d + k + 5) hq) (cwV 0 E.2.2.2.2 (lw_V q1352 q752 q753 q124 q754) rfl rfl rfl hd_J2_size (rm_ok (by omega) (by decide))) (hv_preV hK hI hrv rfl) rfl rfl hl.1 rfl (lv_room (by first | rfl | decide | (simp [va_rf_cat, int_cat, long_cat]; done) | (simp [va_rf_cat, int_cat, long_cat]; decide))) dX3_is_146 (hv_fit (by first | exact (Nat.le_refl 0) | omega))) (fun _ _ _ _ _ h => h.elim) (fun x31 y30 H locs hw hI => ?_)
              refine lv_icmp_ge (tgt := 176) E.1 E.2.1 dX3_is_149 (by decide) (fun c33 => ?_) (fun c33 => ?_)
              · replace hw := hw.1 (c33)
                refine lv_iconst (v := nI 1) E.1 E.2.1 dX3_is_176 rfl ?_
                exact hv_iretz (b := true) E hr hlocks hI (Nat.le_refl 0) rfl hw dX3_is_177
              · replace hw := hw.2 (c33)
                refine hv_aload_n (r := some a0) E.1 E.2.1 dX3_is_152 rfl (lv_at hl 0 rfl) ?_
                refine hv_aload_n (r := some a27) E.1 E.2.1 dX3_is_153 rfl (lv_at hl 1 rfl) ?_
                obtain ⟨f34, ⟨fs, hfs, hfk⟩, hw⟩ := hw
                refine hv_getN (v := va_rf f34) E hK hI ciX14 1 (Nat.le_of_ble_eq_true rfl) q1128 (fun _ h => h) (Or.inl hfs) hfk dX3_is_154 ?_
                refine lv_iload E.1 E.2.1 dX3_is_157 (lv_at hl 2 rfl) ?_
                obtain ⟨a35, ea35, hw⟩ := hw
                revert hl hw; subst ea35; intro hl hw
                obtain ⟨⟨fs38, hrv⟩, hw⟩ := hw
                have hq := hw
                clear hw
                refine hv_callq (u := 0) (B1 := 0) hI (vx_runV (As := [.int (x25)]) (rest := [va_rf (some a0)]) E (met_J2_get l G (d + k + 3) hq) (cwV 1 E.2.2.2.2 (lw_V q1351 q785 q786 q124 q787) rfl rfl rfl hd_J2_get (rm_ok (by omega) (by decide))) (hv_preV hK hI hrv rfl) rfl rfl hl.1 rfl (lv_room (by first | rfl | decide | (simp [va_rf_cat, int_cat, long_cat]; done) | (simp [va_rf_cat, int_cat, long_cat]; decide))) dX3_is_159 (hv_fit (by first | exact (Nat.le_refl 0) | omega))) (fun _ _ _ _ _ h => h.elim) (fun r37 y36 H locs hw hI => ?_)
                obtain ⟨⟨fs41, hrv⟩, hw⟩ := hw
                have hq := hw
                clear hw
                refine hv_callz (u := 0) (B1 := 0) hI (vx_runU (C := "CaseGrouper$Seen") (owner := "CaseGrouper$Facts") (x := ⟨"CaseGrouper$Facts", "is", "(Ljava/lang/Object;)Z"⟩) (As := [va_rf r37]) (rest := []) E (ih hq) (cw_any 1 E.2.2.2.2 (lw_meth q1302) rfl rfl q1297 q1299 (E.2.2.2.2 _ q1300) q1298 q126 (va_Decl.of (E.2.2.2.2 _ q1298) (E.2.2.2.2 _ q1302)) (by decide +kernel) (rm_ok (by omega) (by decide))) (hv_preV hK hI hrv rfl) rfl rfl hl.1 rfl (lv_room (by first | rfl | decide | (simp [va_rf_cat, int_cat, long_cat]; done) | (simp [va_rf_cat, int_cat, long_cat]; decide))) dX3_is_162 (hv_fit (by first | exact (Nat.le_refl 0) | omega))) (fun _ _ _ _ _ h => h.elim) (fun b40 y39 H locs hw hI => ?_)
                refine lv_if_ne (tgt := 170) E.1 E.2.1 dX3_is_165 (by decide) (fun c42 => ?_) (fun c42 => ?_)
                · replace hw := hw.1 (bi_n c42)
                  refine lv_iinc (k := 2) (v := x25 + nI 1) (lv' := [(5, .int (x25 + nI 1)), (0, va_rf (some a0)), (2, va_rf (some a27))]) E.1 E.2.1 dX3_is_170 hl rfl rfl (Nat.le_of_ble_eq_true rfl) (by first | rfl | decide | (simp [va_rf_cat, int_cat, long_cat]; done) | (simp [va_rf_cat, int_cat, long_cat]; decide)) (fun ls hl => ?_)
                  refine lv_goto (tgt := 140) E.1 E.2.1 dX3_is_173 (by decide) ?_
                  obtain ⟨n43, hnn43, hin43⟩ := hw
                  exact ih23 n43 hnn43 _ _ hin43 _ _ _ hI (lv_sub hl [1, 2, 0] rfl)
                · replace hw := hw.2 (bi_z c42)
                  refine lv_iconst (v := nI 0) E.1 E.2.1 dX3_is_168 rfl ?_
                  exact hv_iretz (b := false) E hr hlocks hI (Nat.le_refl 0) rfl hw dX3_is_169
          exact L24 n26 _ _ hi45 _ _ _ hI (lv_sub hl [1, 2, 0] rfl)
        replace hw := hw.2 c19
        refine lv_lookup (tgt := 178) (off := 89) E.1 E.2.1 dX3_is_89 (by decide) ((lv_osw c8 (by decide)).trans ((lv_osw c19 (by decide)).trans rfl)) (by decide) ?_
        · skip
          refine lv_iconst (v := nI 0) E.1 E.2.1 dX3_is_178 rfl ?_
          refine lv_istore (lv' := [(5, .int (nI 0)), (0, va_rf (some a0)), (2, va_rf r6), (4, .int (x7))]) E.1 E.2.1 dX3_is_179 hl (Nat.le_of_ble_eq_true rfl) (by first | rfl | decide | (simp [va_rf_cat, int_cat, long_cat]; done) | (simp [va_rf_cat, int_cat, long_cat]; decide)) (fun ls hl => ?_)
          obtain ⟨I46, ⟨n52, hi71⟩, hb70⟩ := hw
          have L50 : ∀ (n47 : Nat) (y48 : HS) (x51 : Int32), I46 n47 y48 x51 → ∀ (H : Heap) (locs : List Loc) (ls : Array Slot), HI G y0 y48 s H locs → lv_has ls 6 [(0, va_rf (some a0)), (2, va_rf r6), (5, .int (x51))] → W p l e (rmB (d + (k + 1) + 5) 0) s m args below meth c H locs 0 (20 * 0) (vx_MQ below (hQz G y0 post) (hX G y0 (fun _ _ _ => False)) args s 0 (20 * 0) (HA y0)) (F0 m 181 ls []) := by
            intro n47
            induction n47 using Nat.strongRecOn with
            | _ n47 ih49 =>
              intro y48 x51 hw H locs ls hI hl
              replace hw := hb70 n47 y48 x51 hw
              refine lv_iload E.1 E.2.1 dX3_is_181 (lv_at hl 2 rfl) ?_
              refine hv_aload_n (r := r6) E.1 E.2.1 dX3_is_183 rfl (lv_at hl 1 rfl) ?_
              obtain ⟨a53, ea53, hw⟩ := hw
              revert hl hw; subst ea53; intro hl hw
              obtain ⟨f54, ⟨fs, hfs, hfk⟩, hw⟩ := hw
              refine hv_getN (v := va_rf f54) E hK hI ciX14 1 (Nat.le_of_ble_eq_true rfl) q1128 (fun _ h => h) (Or.inl hfs) hfk dX3_is_184 ?_
              obtain ⟨a55, ea55, hw⟩ := hw
              revert hl hw; subst ea55; intro hl hw
              obtain ⟨⟨fs58, hrv⟩, hw⟩ := hw
              have hq := hw
              clear hw
              refine hv_calli (u := 0) (B1 := 0) hI (vx_runV (As := []) (rest := [.int (x51)]) E (met_J2_size l G (d + k + 5) hq) (cwV 0 E.2.2.2.2 (lw_V q1352 q752 q753 q124 q754) rfl rfl rfl hd_J2_size (rm_ok (by omega) (by decide))) (hv_preV hK hI hrv rfl) rfl rfl hl.1 rfl (lv_room (by first | rfl | decide | (simp [va_rf_cat, int_cat, long_cat]; done) | (simp [va_rf_cat, int_cat, long_cat]; decide))) dX3_is_187 (hv_fit (by first | exact (Nat.le_refl 0) | omega))) (fun _ _ _ _ _ h => h.elim) (fun x57 y56 H locs hw hI => ?_)
              refine lv_icmp_ge (tgt := 217) E.1 E.2.1 dX3_is_190 (by decide) (fun c59 => ?_) (fun c59 => ?_)
              · replace hw := hw.1 (c59)
                refine lv_iconst (v := nI 0) E.1 E.2.1 dX3_is_217 rfl ?_
                exact hv_iretz (b := false) E hr hlocks hI (Nat.le_refl 0) rfl hw dX3_is_218
              · replace hw := hw.2 (c59)
                refine hv_aload_n (r := some a0) E.1 E.2.1 dX3_is_193 rfl (lv_at hl 0 rfl) ?_
                refine hv_aload_n (r := some a53) E.1 E.2.1 dX3_is_194 rfl (lv_at hl 1 rfl) ?_
                obtain ⟨f60, ⟨fs, hfs, hfk⟩, hw⟩ := hw
                refine hv_getN (v := va_rf f60) E hK hI ciX14 1 (Nat.le_of_ble_eq_true rfl) q1128 (fun _ h => h) (Or.inl hfs) hfk dX3_is_195 ?_
                refine lv_iload E.1 E.2.1 dX3_is_198 (lv_at hl 2 rfl) ?_
                obtain ⟨a61, ea61, hw⟩ := hw
                revert hl hw; subst ea61; intro hl hw
                obtain ⟨⟨fs64, hrv⟩, hw⟩ := hw
                have hq := hw
                clear hw
                refine hv_callq (u := 0) (B1 := 0) hI (vx_runV (As := [.int (x51)]) (rest := [va_rf (some a0)]) E (met_J2_get l G (d + k + 3) hq) (cwV 1 E.2.2.2.2 (lw_V q1351 q785 q786 q124 q787) rfl rfl rfl hd_J2_get (rm_ok (by omega) (by decide))) (hv_preV hK hI hrv rfl) rfl rfl hl.1 rfl (lv_room (by first | rfl | decide | (simp [va_rf_cat, int_cat, long_cat]; done) | (simp [va_rf_cat, int_cat, long_cat]; decide))) dX3_is_200 (hv_fit (by first | exact (Nat.le_refl 0) | omega))) (fun _ _ _ _ _ h => h.elim) (fun r63 y62 H locs hw hI => ?_)
                obtain ⟨⟨fs67, hrv⟩, hw⟩ := hw
                have hq := hw
                clear hw
                refine hv_callz (u := 0) (B1 := 0) hI (vx_runU (C := "CaseGrouper$Seen") (owner := "CaseGrouper$Facts") (x := ⟨"CaseGrouper$Facts", "is", "(Ljava/lang/Object;)Z"⟩) (As := [va_rf r63]) (rest := []) E (ih hq) (cw_any 1 E.2.2.2.2 (lw_meth q1302) rfl rfl q1297 q1299 (E.2.2.2.2 _ q1300) q1298 q126 (va_Decl.of (E.2.2.2.2 _ q1298) (E.2.2.2.2 _ q1302)) (by decide +kernel) (rm_ok (by omega) (by decide))) (hv_preV hK hI hrv rfl) rfl rfl hl.1 rfl (lv_room (by first | rfl | decide | (simp [va_rf_cat, int_cat, long_cat]; done) | (simp [va_rf_cat, int_cat, long_cat]; decide))) dX3_is_203 (hv_fit (by first | exact (Nat.le_refl 0) | omega))) (fun _ _ _ _ _ h => h.elim) (fun b66 y65 H locs hw hI => ?_)
                refine lv_if_eq (tgt := 211) E.1 E.2.1 dX3_is_206 (by decide) (fun c68 => ?_) (fun c68 => ?_)
                · replace hw := hw.1 (bi_z c68)
                  refine lv_iinc (k := 2) (v := x51 + nI 1) (lv' := [(5, .int (x51 + nI 1)), (0, va_rf (some a0)), (2, va_rf (some a53))]) E.1 E.2.1 dX3_is_211 hl rfl rfl (Nat.le_of_ble_eq_true rfl) (by first | rfl | decide | (simp [va_rf_cat, int_cat, long_cat]; done) | (simp [va_rf_cat, int_cat, long_cat]; decide)) (fun ls hl => ?_)
                  refine lv_goto (tgt := 181) E.1 E.2.1 dX3_is_214 (by decide) ?_
                  obtain ⟨n69, hnn69, hin69⟩ := hw
                  exact ih49 n69 hnn69 _ _ hin69 _ _ _ hI (lv_sub hl [1, 2, 0] rfl)
                · replace hw := hw.2 (bi_n c68)
                  refine lv_iconst (v := nI 1) E.1 E.2.1 dX3_is_209 rfl ?_
                  exact hv_iretz (b := true) E hr hlocks hI (Nat.le_refl 0) rfl hw dX3_is_210
          exact L50 n52 _ _ hi71 _ _ _ hI (lv_sub hl [1, 2, 0] rfl)
      refine hv_aload_n (r := p1) E.1 E.2.1 dX3_is_18 rfl (lv_at hl 1 rfl) ?_
      obtain ⟨hof, hw⟩ := hw
      refine hv_castC (cn := 12) E hK hI (by decide) q1346 hof dX3_is_19 ?_
      refine hv_astore_n (r := p1) (lv' := [(2, va_rf p1), (0, va_rf (some a0)), (1, va_rf p1)]) E.1 E.2.1 dX3_is_22 rfl hl (Nat.le_of_ble_eq_true rfl) (by first | rfl | decide | (simp [va_rf_cat, int_cat, long_cat]; done) | (simp [va_rf_cat, int_cat, long_cat]; decide)) (fun ls hl => ?_)
      refine hv_aload_n (r := p1) E.1 E.2.1 dX3_is_23 rfl (lv_at hl 0 rfl) ?_
      obtain ⟨a72, ea72, hw⟩ := hw
      revert hl hw; subst ea72; intro hl hw
      obtain ⟨f73, ⟨fs, hfs, hfk⟩, hw⟩ := hw
      refine hv_getN (v := va_rf f73) E hK hI ciX14 0 (Nat.le_of_ble_eq_true rfl) q1126 (fun _ h => h) (Or.inl hfs) hfk dX3_is_24 ?_
      refine hv_astore_n (r := f73) (lv' := [(3, va_rf f73), (2, va_rf (some a72)), (0, va_rf (some a0)), (1, va_rf (some a72))]) E.1 E.2.1 dX3_is_27 rfl hl (Nat.le_of_ble_eq_true rfl) (by first | rfl | decide | (simp [va_rf_cat, int_cat, long_cat]; done) | (simp [va_rf_cat, int_cat, long_cat]; decide)) (fun ls hl => ?_)
      refine lv_iconst (v := (-1)) E.1 E.2.1 dX3_is_28 rfl ?_
      refine lv_istore (lv' := [(4, .int ((-1))), (3, va_rf f73), (2, va_rf (some a72)), (0, va_rf (some a0)), (1, va_rf (some a72))]) E.1 E.2.1 dX3_is_29 hl (Nat.le_of_ble_eq_true rfl) (by first | rfl | decide | (simp [va_rf_cat, int_cat, long_cat]; done) | (simp [va_rf_cat, int_cat, long_cat]; decide)) (fun ls hl => ?_)
      refine hv_aload_n (r := f73) E.1 E.2.1 dX3_is_31 rfl (lv_at hl 1 rfl) ?_
      obtain ⟨a74, ea74, hw⟩ := hw
      revert hl hw; subst ea74; intro hl hw
      obtain ⟨⟨fs77, hrv⟩, hw⟩ := hw
      have hq := hw
      clear hw
      refine hv_calli (u := 0) (B1 := 0) hI (vx_runV (As := []) (rest := []) E (met_J5_hashCode l G (d + k + 2) hq) (cwV 0 E.2.2.2.2 (lw_V q1347 q683 q684 q132 q685) rfl rfl rfl hd_J5_hashCode (rm_ok (by omega) (by decide))) (hv_preV hK hI hrv rfl) rfl rfl hl.1 rfl (lv_room (by first | rfl | decide | (simp [va_rf_cat, int_cat, long_cat]; done) | (simp [va_rf_cat, int_cat, long_cat]; decide))) dX3_is_32 (hv_fit (by first | exact (Nat.le_refl 0) | omega))) (fun _ _ _ _ _ h => h.elim) (fun x76 y75 H locs hw hI => ?_)
      by_cases c78 : x76 = nI 96727
      · replace hw := hw.1 c78
        have hti : x76.toInt = 96727 := by rw [c78]; decide
        refine lv_lookup (tgt := 75) (off := 40) E.1 E.2.1 dX3_is_35 (by decide) (by rw [hti]; decide) (by decide) ?_
        refine hv_aload_n (r := some a74) E.1 E.2.1 dX3_is_75 rfl (lv_at hl 1 rfl) ?_
        refine hv_ldcS E hK 3 1 rfl dX3_is_76 ?_
        obtain ⟨⟨fs81, hrv⟩, hw⟩ := hw
        have hq := hw
        clear hw
        refine hv_callz (u := 0) (B1 := 0) hI (vx_runV (As := [va_rf (some (gK G 1))]) (rest := []) E (met_J5_equals l G (d + k + 4) hq) (cwV 1 E.2.2.2.2 (lw_V q1349 q737 q738 q132 q739) rfl rfl rfl hd_J5_equals (rm_ok (by omega) (by decide))) (hv_preV hK hI hrv rfl) rfl rfl hl.1 rfl (lv_room (by first | rfl | decide | (simp [va_rf_cat, int_cat, long_cat]; done) | (simp [va_rf_cat, int_cat, long_cat]; decide))) dX3_is_78 (hv_fit (by first | exact (Nat.le_refl 0) | omega))) (fun _ _ _ _ _ h => h.elim) (fun b80 y79 H locs hw hI => ?_)
        refine lv_if_eq (tgt := 87) E.1 E.2.1 dX3_is_81 (by decide) (fun c82 => ?_) (fun c82 => ?_)
        · replace hw := hw.1 (bi_z c82)
          exact jh4 _ _ _ hw _ _ _ hI (lv_sub hl [3, 2, 0] rfl)
        · replace hw := hw.2 (bi_n c82)
          refine lv_iconst (v := nI 1) E.1 E.2.1 dX3_is_84 rfl ?_
          refine lv_istore (lv' := [(4, .int (nI 1)), (3, va_rf (some a74)), (2, va_rf (some a72)), (0, va_rf (some a0)), (1, va_rf (some a72))]) E.1 E.2.1 dX3_is_85 hl (Nat.le_of_ble_eq_true rfl) (by first | rfl | decide | (simp [va_rf_cat, int_cat, long_cat]; done) | (simp [va_rf_cat, int_cat, long_cat]; decide)) (fun ls hl => ?_)
          exact jh4 _ _ _ hw _ _ _ hI (lv_sub hl [3, 2, 0] rfl)
      replace hw := hw.2 c78
      by_cases c83 : x76 = nI 109267
      · replace hw := hw.1 c83
        have hti : x76.toInt = 109267 := by rw [c83]; decide
        refine lv_lookup (tgt := 60) (off := 25) E.1 E.2.1 dX3_is_35 (by decide) (by rw [hti]; decide) (by decide) ?_
        refine hv_aload_n (r := some a74) E.1 E.2.1 dX3_is_60 rfl (lv_at hl 1 rfl) ?_
        refine hv_ldcS E hK 2 12 rfl dX3_is_61 ?_
        obtain ⟨⟨fs86, hrv⟩, hw⟩ := hw
        have hq := hw
        clear hw
        refine hv_callz (u := 0) (B1 := 0) hI (vx_runV (As := [va_rf (some (gK G 12))]) (rest := []) E (met_J5_equals l G (d + k + 4) hq) (cwV 1 E.2.2.2.2 (lw_V q1349 q737 q738 q132 q739) rfl rfl rfl hd_J5_equals (rm_ok (by omega) (by decide))) (hv_preV hK hI hrv rfl) rfl rfl hl.1 rfl (lv_room (by first | rfl | decide | (simp [va_rf_cat, int_cat, long_cat]; done) | (simp [va_rf_cat, int_cat, long_cat]; decide))) dX3_is_63 (hv_fit (by first | exact (Nat.le_refl 0) | omega))) (fun _ _ _ _ _ h => h.elim) (fun b85 y84 H locs hw hI => ?_)
        refine lv_if_eq (tgt := 87) E.1 E.2.1 dX3_is_66 (by decide) (fun c87 => ?_) (fun c87 => ?_)
        · replace hw := hw.1 (bi_z c87)
          exact jh4 _ _ _ hw _ _ _ hI (lv_sub hl [3, 2, 0] rfl)
        · replace hw := hw.2 (bi_n c87)
          refine lv_iconst (v := nI 0) E.1 E.2.1 dX3_is_69 rfl ?_
          refine lv_istore (lv' := [(4, .int (nI 0)), (3, va_rf (some a74)), (2, va_rf (some a72)), (0, va_rf (some a0)), (1, va_rf (some a72))]) E.1 E.2.1 dX3_is_70 hl (Nat.le_of_ble_eq_true rfl) (by first | rfl | decide | (simp [va_rf_cat, int_cat, long_cat]; done) | (simp [va_rf_cat, int_cat, long_cat]; decide)) (fun ls hl => ?_)
          refine lv_goto (tgt := 87) E.1 E.2.1 dX3_is_72 (by decide) ?_
          exact jh4 _ _ _ hw _ _ _ hI (lv_sub hl [3, 2, 0] rfl)
      replace hw := hw.2 c83
      refine lv_lookup (tgt := 87) (off := 52) E.1 E.2.1 dX3_is_35 (by decide) ((lv_osw c78 (by decide)).trans ((lv_osw c83 (by decide)).trans rfl)) (by decide) ?_
      · skip
        exact jh4 _ _ _ hw _ _ _ hI (lv_sub hl [3, 2, 0] rfl)
    · replace hw := hw.2 (bi_n c2)
      refine hv_aload_n (r := p1) E.1 E.2.1 dX3_is_7 rfl (lv_at hl 1 rfl) ?_
      obtain ⟨hof, hw⟩ := hw
      refine hv_castC (cn := 13) E hK hI (by decide) q1303 hof dX3_is_8 ?_
      refine hv_astore_n (r := p1) (lv' := [(2, va_rf p1), (0, va_rf (some a0)), (1, va_rf p1)]) E.1 E.2.1 dX3_is_11 rfl hl (Nat.le_of_ble_eq_true rfl) (by first | rfl | decide | (simp [va_rf_cat, int_cat, long_cat]; done) | (simp [va_rf_cat, int_cat, long_cat]; decide)) (fun ls hl => ?_)
      refine hv_aload_n (r := some a0) E.1 E.2.1 dX3_is_12 rfl (lv_at hl 1 rfl) ?_
      refine hv_aload_n (r := p1) E.1 E.2.1 dX3_is_13 rfl (lv_at hl 0 rfl) ?_
      obtain ⟨⟨fs91, hrv⟩, hw⟩ := hw
      have hq := hw
      clear hw
      refine hv_callz (u := 0) (B1 := 0) hI (vx_runU (C := "CaseGrouper$Seen") (owner := "CaseGrouper$Facts") (x := ⟨"CaseGrouper$Facts", "holds", "(LCaseGrouper$Atom;)Z"⟩) (As := [va_rf p1]) (rest := []) E (met_X4_holds l G (d + k + 1) hq) (cw_any 1 E.2.2.2.2 (lw_meth q1309) rfl rfl q1304 q1306 (E.2.2.2.2 _ q1307) q1308 q127 (va_Decl.abs (hK.2.2.2.2.1 _ q1305 rfl)) (by decide +kernel) (rm_ok (by omega) (by decide))) (hv_preV hK hI hrv rfl) rfl rfl hl.1 rfl (lv_room (by first | rfl | decide | (simp [va_rf_cat, int_cat, long_cat]; done) | (simp [va_rf_cat, int_cat, long_cat]; decide))) dX3_is_14 (hv_fit (by first | exact (Nat.le_refl 0) | omega))) (fun _ _ _ _ _ h => h.elim) (fun b90 y89 H locs hw hI => ?_)
      exact hv_iretz (b := b90) E hr hlocks hI (Nat.le_refl 0) rfl hw dX3_is_17
/-- CaseGrouper$Seen.answers(Z)V -/
def wp_X4_answers (G : GP) (post : HS → Prop) (y0 : HS) (a0 : Nat) (o1 : Bool) : Prop := ∃ J1 : HS → Int64 → Int64 → (Option Nat) → Prop, (∀ (y3 : HS) (w4 : Int64) (w5 : Int64) (r6 : Option Nat), J1 y3 w4 w5 r6 → ∃ a7, r6 = some a7 ∧ ∃ fs9, y3.1 a7 = some (ob 2 fs9) ∧ 7 < fs9.length ∧ ∀ y8, y8 = hput y3 a7 (ob 2 (fs9.set 7 (.long (w5 ||| w4)))) → ∃ f10, fI y8 a0 2 6 f10 ∧ ∃ fs12, y8.1 a0 = some (ob 2 fs12) ∧ 6 < fs12.length ∧ ∀ y11, y11 = hput y8 a0 (ob 2 (fs12.set 6 (.int (f10 + (nI 1))))) → post y11) ∧ (∃ f13, fL y0 a0 2 7 f13 ∧ (o1 = false → J1 y0 0 f13 (some a0)) ∧ (o1 = true → ∃ f15, fI y0 a0 2 6 f15 ∧ J1 y0 (1 <<< (f15.toInt64 &&& 63)) f13 (some a0)))
theorem hs_X4_answers : yX4_answers.cls ≠ "java/lang/invoke/MethodHandle" ∧ yX4_answers.cls ≠ "java/lang/invoke/VarHandle" ∧ (parseMethodDescriptor yX4_answers.desc).map (fun d => d.parameters.length) = some 1 := by decide +kernel
theorem hd_X4_answers : yX4_answers.cls = RX4 ∧ yX4_answers.cls ≠ "java/lang/invoke/MethodHandle" ∧ yX4_answers.cls ≠ "java/lang/invoke/VarHandle" ∧ (parseMethodDescriptor yX4_answers.desc).map (fun d => d.parameters.length) = some 1 := by decide +kernel
set_option maxHeartbeats 4000000 in
theorem met_X4_answers (l : Launch) (G : GP) (d : Nat) {post : HS → Prop} {y0 : HS} {a0 : Nat} {o1 : Bool} (hw : wp_X4_answers G post y0 a0 o1) : vx_Met l yX4_answers (ws_ yX4_answers cX4_answers 2 none) (rmB (d + 0) 0) (hPc G y0 [va_rf (some a0), .int (bi o1)]) (hQv G y0 post) (hX G y0 (fun _ _ _ => False)) 0 (20 * 0) (HA y0) := by
  unfold wp_X4_answers at hw
  refine hv_met (own := RX4) (by decide) rfl (Nat.le_of_ble_eq_true rfl) ?_
  intro p e s m args below meth c ls E hr hlocks hnm hE hK hI hl
  replace hl : lv_has ls 2 [(0, va_rf (some a0)), (1, .int (bi o1))] := hl
  obtain ⟨J1, hj16, hw⟩ := hw
  have jh2 : ∀ (y3 : HS) (w4 : Int64) (w5 : Int64) (r6 : Option Nat), J1 y3 w4 w5 r6 → ∀ (H : Heap) (locs : List Loc) (ls : Array Slot), HI G y0 y3 s H locs → lv_has ls 2 [(0, va_rf (some a0))] → W p l e (rmB (d + 0) 0) s m args below meth c H locs 0 (20 * 0) (vx_MQ below (hQv G y0 post) (hX G y0 (fun _ _ _ => False)) args s 0 (20 * 0) (HA y0)) (F0 m 19 ls [.long (w4), .long (w5), va_rf r6]) := by
    intro y3 w4 w5 r6 hw H locs ls hI hl
    replace hw := hj16 y3 w4 w5 r6 hw
    refine lv_lor E.1 E.2.1 dX4_answers_19 ?_
    obtain ⟨a7, ea7, hw⟩ := hw
    revert hl hw; subst ea7; intro hl hw
    obtain ⟨fs9, hfs, hln, hw⟩ := hw
    refine hv_put (v := .long (w5 ||| w4)) E hK hI ciX4 7 (Nat.le_of_ble_eq_true rfl) q1400 (fun _ h => h) rfl rfl rfl hfs hln dX4_answers_20 (fun H locs hI => ?_)
    obtain ⟨y8, ey8⟩ : ∃ w, w = hput y3 a7 (ob 2 (fs9.set 7 (.long (w5 ||| w4)))) := ⟨_, rfl⟩
    rw [← ey8] at hI
    replace hw := hw y8 ey8
    refine hv_aload_n (r := some a0) E.1 E.2.1 dX4_answers_23 rfl (lv_at hl 0 rfl) ?_
    refine hv_dup E.1 E.2.1 dX4_answers_24 ?_
    obtain ⟨f10, ⟨fs, hfs, hfk⟩, hw⟩ := hw
    refine hv_get (v := .int f10) E hK hI ciX4 6 (Nat.le_of_ble_eq_true rfl) q1398 (fun _ h => h) (Or.inl hfs) hfk dX4_answers_25 ?_
    refine lv_iconst (v := nI 1) E.1 E.2.1 dX4_answers_28 rfl ?_
    refine lv_iadd E.1 E.2.1 dX4_answers_29 ?_
    obtain ⟨fs12, hfs, hln, hw⟩ := hw
    refine hv_put (v := .int (f10 + (nI 1))) E hK hI ciX4 6 (Nat.le_of_ble_eq_true rfl) q1398 (fun _ h => h) rfl rfl rfl hfs hln dX4_answers_30 (fun H locs hI => ?_)
    obtain ⟨y11, ey11⟩ : ∃ w, w = hput y8 a0 (ob 2 (fs12.set 6 (.int (f10 + (nI 1))))) := ⟨_, rfl⟩
    rw [← ey11] at hI
    replace hw := hw y11 ey11
    exact hv_vret E hr hlocks hI (Nat.le_refl 0) hw dX4_answers_33
  refine hv_aload_n (r := some a0) E.1 E.2.1 dX4_answers_0 rfl (lv_at hl 0 rfl) ?_
  refine hv_dup E.1 E.2.1 dX4_answers_1 ?_
  obtain ⟨f13, ⟨fs, hfs, hfk⟩, hw⟩ := hw
  refine hv_get (v := .long f13) E hK hI ciX4 7 (Nat.le_of_ble_eq_true rfl) q1400 (fun _ h => h) (Or.inl hfs) hfk dX4_answers_2 ?_
  refine lv_iload_n E.1 E.2.1 dX4_answers_5 rfl (lv_at hl 1 rfl) ?_
  refine lv_if_eq (tgt := 18) E.1 E.2.1 dX4_answers_6 (by decide) (fun c14 => ?_) (fun c14 => ?_)
  · replace hw := hw.1 (bi_z c14)
    refine lv_lconst (v := 0) E.1 E.2.1 dX4_answers_18 rfl ?_
    exact jh2 _ _ _ _ hw _ _ _ hI (lv_sub hl [0] rfl)
  · replace hw := hw.2 (bi_n c14)
    refine lv_lconst (v := 1) E.1 E.2.1 dX4_answers_9 rfl ?_
    refine hv_aload_n (r := some a0) E.1 E.2.1 dX4_answers_10 rfl (lv_at hl 0 rfl) ?_
    obtain ⟨f15, ⟨fs, hfs, hfk⟩, hw⟩ := hw
    refine hv_get (v := .int f15) E hK hI ciX4 6 (Nat.le_of_ble_eq_true rfl) q1398 (fun _ h => h) (Or.inl hfs) hfk dX4_answers_11 ?_
    refine lv_lshl E.1 E.2.1 dX4_answers_14 rfl ?_
    refine lv_goto (tgt := 19) E.1 E.2.1 dX4_answers_15 (by decide) ?_
    exact jh2 _ _ _ _ hw _ _ _ hI (lv_sub hl [0] rfl)
/-- CaseGrouper$Facts.goes(Ljava/lang/Object;)LCaseGrouper$Leaf; -/
def wb_X3_goes_r2 (G : GP) (rc : (Option Nat → HS → Prop) → HS → Nat → (Option Nat) → Prop) (post : Option Nat → HS → Prop) (y0 : HS) (a0 : Nat) (p1 : Option Nat) : Prop := ∃ b1, isIn G y0 p1 11 b1 ∧ (b1 = false → ∃ J3 : HS → Bool → (Option Nat) → (Option Nat) → Prop, (∀ (y5 : HS) (b6 : Bool) (r7 : Option Nat) (r8 : Option Nat), J3 y5 b6 r7 r8 → ∃ a9, r7 = some a9 ∧ ∃ (n10 : Nat) (g11 : Nat → Option Nat), rd G y5 a9 (ar 6 n10 g11) ∧ vp_in (bi b6) n10 ∧ ∃ a12, r8 = some a12 ∧ (∃ fs15, rd G y5 a12 (ob 2 fs15)) ∧ rc (fun r14 y13 => post r14 y13) y5 a12 (g11 (bi b6).toNatClampNeg)) ∧ (isOf G y0 p1 14 ∧ ∃ a16, p1 = some a16 ∧ ∃ f17, fR y0 a16 14 0 f17 ∧ (∃ fs20, rd G y0 a0 (ob 2 fs20)) ∧ wp_is2 G d_is2 (fun b19 y18 => (∃ fs22, rd G y18 a0 (ob 2 fs22)) ∧ wp_X4_answers G (fun y21 => ∃ f23, fR y21 a16 14 1 f23 ∧ (b19 = false → J3 y21 true f23 (some a0)) ∧ (b19 = true → J3 y21 false f23 (some a0))) y18 a0 b19) y0 a0 f17)) ∧ (b1 = true → isOf G y0 p1 11 ∧ post p1 y0)
theorem hs_X3_goes_r2 : yX3_goes.cls ≠ "java/lang/invoke/MethodHandle" ∧ yX3_goes.cls ≠ "java/lang/invoke/VarHandle" ∧ (parseMethodDescriptor yX3_goes.desc).map (fun d => d.parameters.length) = some 1 := by decide +kernel
theorem hd_X3_goes_r2 : yX3_goes.cls = RX3 ∧ yX3_goes.cls ≠ "java/lang/invoke/MethodHandle" ∧ yX3_goes.cls ≠ "java/lang/invoke/VarHandle" ∧ (parseMethodDescriptor yX3_goes.desc).map (fun d => d.parameters.length) = some 1 := by decide +kernel
def d_goes2 : Nat := 12
def wp_goes2 (G : GP) : Nat → (Option Nat → HS → Prop) → HS → Nat → (Option Nat) → Prop
  | 0 => fun _ _ _ _ => False
  | k + 1 => wb_X3_goes_r2 G (wp_goes2 G k)
set_option maxHeartbeats 4000000 in
theorem met_X3_goes_r2 (l : Launch) (G : GP) (d : Nat) : ∀ (k : Nat) {post : Option Nat → HS → Prop} {y0 : HS} {a0 : Nat} {p1 : Option Nat}, wp_goes2 G k post y0 a0 p1 → vx_Met l yX3_goes (ws_ yX3_goes cX3_goes 4 (some (.object "CaseGrouper$Leaf"))) (rmB (d + k + 47) 0) (hPc G y0 [va_rf (some a0), va_rf p1]) (hQq G y0 post) (hX G y0 (fun _ _ _ => False)) 0 (20 * 0) (HA y0) := by
  intro k
  induction k with
  | zero => intro post y0 a0 p1 hw; exact hw.elim
  | succ k ih =>
    intro post y0 a0 p1 hw
    replace hw : wb_X3_goes_r2 G (wp_goes2 G k) post y0 a0 p1 := hw
    have hD_is2 : d_is2 = 41 := rfl
    unfold wb_X3_goes_r2 at hw
    refine hv_met (own := RX3) (by decide) rfl (by simp [lg_sl, va_rf_cat, int_cat, long_cat]) ?_
    intro p e s m args below meth c ls E hr hlocks hnm hE hK hI hl
    replace hl : lv_has ls 4 [(0, va_rf (some a0)), (1, va_rf p1)] := by simpa [lv_args, va_rf_cat, int_cat, long_cat] using hl
    refine hv_aload_n (r := p1) E.1 E.2.1 dX3_goes_0 rfl (lv_at hl 1 rfl) ?_
    obtain ⟨b1, hin, hw⟩ := hw
    refine hv_inst (cn := 11) E hK hI (by decide) q1295 hin dX3_goes_1 ?_
    refine lv_if_eq (tgt := 14) E.1 E.2.1 dX3_goes_4 (by decide) (fun c2 => ?_) (fun c2 => ?_)
    · replace hw := hw.1 (bi_z c2)
      obtain ⟨J3, hj25, hw⟩ := hw
      have jh4 : ∀ (y5 : HS) (b6 : Bool) (r7 : Option Nat) (r8 : Option Nat), J3 y5 b6 r7 r8 → ∀ (H : Heap) (locs : List Loc) (ls : Array Slot), HI G y0 y5 s H locs → lv_has ls 4 [] → W p l e (rmB (d + (k + 1) + 47) 0) s m args below meth c H locs 0 (20 * 0) (vx_MQ below (hQq G y0 post) (hX G y0 (fun _ _ _ => False)) args s 0 (20 * 0) (HA y0)) (F0 m 47 ls [.int (bi b6), va_rf r7, va_rf r8]) := by
        intro y5 b6 r7 r8 hw H locs ls hI hl
        replace hw := hj25 y5 b6 r7 r8 hw
        obtain ⟨a9, ea9, hw⟩ := hw
        revert hl hw; subst ea9; intro hl hw
        obtain ⟨n10, g11, hra, hin, hw⟩ := hw
        refine hv_aald E hK hI hra rfl rfl hin dX3_goes_47 ?_
        obtain ⟨a12, ea12, hw⟩ := hw
        revert hl hw; subst ea12; intro hl hw
        obtain ⟨⟨fs15, hrv⟩, hw⟩ := hw
        have hq := hw
        clear hw
        refine hv_callq (u := 0) (B1 := 0) hI (vx_runU (C := "CaseGrouper$Seen") (owner := "CaseGrouper$Facts") (x := ⟨"CaseGrouper$Facts", "goes", "(Ljava/lang/Object;)LCaseGrouper$Leaf;"⟩) (As := [va_rf (g11 (bi b6).toNatClampNeg)]) (rest := []) E (ih hq) (cw_any 1 E.2.2.2.2 (lw_meth q1294) rfl rfl q1361 q2461 (E.2.2.2.2 _ q2462) q1293 q126 (va_Decl.of (E.2.2.2.2 _ q1293) (E.2.2.2.2 _ q1294)) (by decide +kernel) (rm_ok (by omega) (by decide))) (hv_preV hK hI hrv rfl) rfl rfl hl.1 rfl (lv_room (by first | rfl | decide | (simp [va_rf_cat, int_cat, long_cat]; done) | (simp [va_rf_cat, int_cat, long_cat]; decide))) dX3_goes_48 (hv_fit (by first | exact (Nat.le_refl 0) | omega))) (fun _ _ _ _ _ h => h.elim) (fun r14 y13 H locs hw hI => ?_)
        exact hv_aret (r := r14) E hr (Or.inl ⟨_, rfl⟩) hlocks hI (Nat.le_refl 0) hw dX3_goes_51
      refine hv_aload_n (r := p1) E.1 E.2.1 dX3_goes_14 rfl (lv_at hl 1 rfl) ?_
      obtain ⟨hof, hw⟩ := hw
      refine hv_castC (cn := 14) E hK hI (by decide) q1296 hof dX3_goes_15 ?_
      refine hv_astore_n (r := p1) (lv' := [(2, va_rf p1), (0, va_rf (some a0)), (1, va_rf p1)]) E.1 E.2.1 dX3_goes_18 rfl hl (Nat.le_of_ble_eq_true rfl) (by first | rfl | decide | (simp [va_rf_cat, int_cat, long_cat]; done) | (simp [va_rf_cat, int_cat, long_cat]; decide)) (fun ls hl => ?_)
      refine hv_aload_n (r := some a0) E.1 E.2.1 dX3_goes_19 rfl (lv_at hl 1 rfl) ?_
      refine hv_aload_n (r := p1) E.1 E.2.1 dX3_goes_20 rfl (lv_at hl 0 rfl) ?_
      obtain ⟨a16, ea16, hw⟩ := hw
      revert hl hw; subst ea16; intro hl hw
      obtain ⟨f17, ⟨fs, hfs, hfk⟩, hw⟩ := hw
      refine hv_getN (v := va_rf f17) E hK hI ciX16 0 (Nat.le_of_ble_eq_true rfl) q1210 (fun _ h => h) (Or.inl hfs) hfk dX3_goes_21 ?_
      obtain ⟨⟨fs20, hrv⟩, hw⟩ := hw
      have hq := hw
      clear hw
      refine hv_callz (u := 0) (B1 := 0) hI (vx_runU (C := "CaseGrouper$Seen") (owner := "CaseGrouper$Facts") (x := ⟨"CaseGrouper$Facts", "is", "(Ljava/lang/Object;)Z"⟩) (As := [va_rf f17]) (rest := []) E (met_X3_is_r2 l G (d + k + 1) d_is2 hq) (cw_any 1 E.2.2.2.2 (lw_meth q1302) rfl rfl q1297 q1299 (E.2.2.2.2 _ q1300) q1298 q126 (va_Decl.of (E.2.2.2.2 _ q1298) (E.2.2.2.2 _ q1302)) (by decide +kernel) (rm_ok (by omega) (by decide))) (hv_preV hK hI hrv rfl) rfl rfl hl.1 rfl (lv_room (by first | rfl | decide | (simp [va_rf_cat, int_cat, long_cat]; done) | (simp [va_rf_cat, int_cat, long_cat]; decide))) dX3_goes_24 (hv_fit (by first | exact (Nat.le_refl 0) | omega))) (fun _ _ _ _ _ h => h.elim) (fun b19 y18 H locs hw hI => ?_)
      refine lv_istore_n (lv' := [(3, .int (bi b19)), (2, va_rf (some a16)), (0, va_rf (some a0)), (1, va_rf (some a16))]) E.1 E.2.1 dX3_goes_27 rfl hl (Nat.le_of_ble_eq_true rfl) (by first | rfl | decide | (simp [va_rf_cat, int_cat, long_cat]; done) | (simp [va_rf_cat, int_cat, long_cat]; decide)) (fun ls hl => ?_)
      refine hv_aload_n (r := some a0) E.1 E.2.1 dX3_goes_28 rfl (lv_at hl 2 rfl) ?_
      refine lv_iload_n E.1 E.2.1 dX3_goes_29 rfl (lv_at hl 0 rfl) ?_
      obtain ⟨⟨fs22, hrv⟩, hw⟩ := hw
      have hq := hw
      clear hw
      refine hv_callv (u := 0) (B1 := 0) hI (vx_runU (C := "CaseGrouper$Seen") (owner := "CaseGrouper$Facts") (x := ⟨"CaseGrouper$Facts", "answers", "(Z)V"⟩) (As := [.int (bi b19)]) (rest := []) E (met_X4_answers l G (d + k + 47) hq) (cw_any 1 E.2.2.2.2 (lw_meth q1358) rfl rfl q1353 q1355 (E.2.2.2.2 _ q1356) q1357 q127 (va_Decl.of (E.2.2.2.2 _ q1354) (E.2.2.2.2 _ q1360)) (by decide +kernel) (rm_ok (by omega) (by decide))) (hv_preV hK hI hrv rfl) rfl rfl hl.1 rfl (lv_room (by first | rfl | decide | (simp [va_rf_cat, int_cat, long_cat]; done) | (simp [va_rf_cat, int_cat, long_cat]; decide))) dX3_goes_30 (hv_fit (by first | exact (Nat.le_refl 0) | omega))) (fun _ _ _ _ _ h => h.elim) (fun y21 H locs hw hI => ?_)
      refine hv_aload_n (r := some a0) E.1 E.2.1 dX3_goes_33 rfl (lv_at hl 2 rfl) ?_
      refine hv_aload_n (r := some a16) E.1 E.2.1 dX3_goes_34 rfl (lv_at hl 1 rfl) ?_
      obtain ⟨f23, ⟨fs, hfs, hfk⟩, hw⟩ := hw
      refine hv_getN (v := va_rf f23) E hK hI ciX16 1 (Nat.le_of_ble_eq_true rfl) q1212 (fun _ h => h) (Or.inl hfs) hfk dX3_goes_35 ?_
      refine lv_iload_n E.1 E.2.1 dX3_goes_38 rfl (lv_at hl 0 rfl) ?_
      refine lv_if_eq (tgt := 46) E.1 E.2.1 dX3_goes_39 (by decide) (fun c24 => ?_) (fun c24 => ?_)
      · replace hw := hw.1 (bi_z c24)
        refine lv_iconst (v := nI 1) E.1 E.2.1 dX3_goes_46 rfl ?_
        exact jh4 _ _ _ _ hw _ _ _ hI (lv_sub hl [] rfl)
      · replace hw := hw.2 (bi_n c24)
        refine lv_iconst (v := nI 0) E.1 E.2.1 dX3_goes_42 rfl ?_
        refine lv_goto (tgt := 47) E.1 E.2.1 dX3_goes_43 (by decide) ?_
        exact jh4 _ _ _ _ hw _ _ _ hI (lv_sub hl [] rfl)
    · replace hw := hw.2 (bi_n c2)
      refine hv_aload_n (r := p1) E.1 E.2.1 dX3_goes_7 rfl (lv_at hl 1 rfl) ?_
      obtain ⟨hof, hw⟩ := hw
      refine hv_castC (cn := 11) E hK hI (by decide) q1295 hof dX3_goes_8 ?_
      refine hv_astore_n (r := p1) (lv' := [(2, va_rf p1), (0, va_rf (some a0)), (1, va_rf p1)]) E.1 E.2.1 dX3_goes_11 rfl hl (Nat.le_of_ble_eq_true rfl) (by first | rfl | decide | (simp [va_rf_cat, int_cat, long_cat]; done) | (simp [va_rf_cat, int_cat, long_cat]; decide)) (fun ls hl => ?_)
      refine hv_aload_n (r := p1) E.1 E.2.1 dX3_goes_12 rfl (lv_at hl 0 rfl) ?_
      exact hv_aret (r := p1) E hr (Or.inl ⟨_, rfl⟩) hlocks hI (Nat.le_refl 0) hw dX3_goes_13
/-- CaseGrouper$Facts.answers(Z)V -/
def wp_X3_answers_r16 (G : GP) (post : HS → Prop) (y0 : HS) (a0 : Nat) (o1 : Bool) : Prop := post y0
theorem hs_X3_answers_r16 : yX3_answers.cls ≠ "java/lang/invoke/MethodHandle" ∧ yX3_answers.cls ≠ "java/lang/invoke/VarHandle" ∧ (parseMethodDescriptor yX3_answers.desc).map (fun d => d.parameters.length) = some 1 := by decide +kernel
theorem hd_X3_answers_r16 : yX3_answers.cls = RX3 ∧ yX3_answers.cls ≠ "java/lang/invoke/MethodHandle" ∧ yX3_answers.cls ≠ "java/lang/invoke/VarHandle" ∧ (parseMethodDescriptor yX3_answers.desc).map (fun d => d.parameters.length) = some 1 := by decide +kernel
set_option maxHeartbeats 4000000 in
theorem met_X3_answers_r16 (l : Launch) (G : GP) (d : Nat) {post : HS → Prop} {y0 : HS} {a0 : Nat} {o1 : Bool} (hw : wp_X3_answers_r16 G post y0 a0 o1) : vx_Met l yX3_answers (ws_ yX3_answers cX3_answers 2 none) (rmB (d + 0) 0) (hPc G y0 [va_rf (some a0), .int (bi o1)]) (hQv G y0 post) (hX G y0 (fun _ _ _ => False)) 0 (20 * 0) (HA y0) := by
  unfold wp_X3_answers_r16 at hw
  refine hv_met (own := RX3) (by decide) rfl (Nat.le_of_ble_eq_true rfl) ?_
  intro p e s m args below meth c ls E hr hlocks hnm hE hK hI hl
  replace hl : lv_has ls 2 [(0, va_rf (some a0)), (1, .int (bi o1))] := hl
  exact hv_vret E hr hlocks hI (Nat.le_refl 0) hw dX3_answers_0
/-- CaseGrouper$Facts.is(Ljava/lang/Object;)Z -/
def wb_X3_is_r16 (G : GP) (rc : (Bool → HS → Prop) → HS → Nat → (Option Nat) → Prop) (post : Bool → HS → Prop) (y0 : HS) (a0 : Nat) (p1 : Option Nat) : Prop := ∃ b1, isIn G y0 p1 13 b1 ∧ (b1 = false → ∃ J3 : HS → (Option Nat) → Int32 → Prop, (∀ (y5 : HS) (r6 : Option Nat) (x7 : Int32), J3 y5 r6 x7 → (x7 = nI 0 → ∃ a9, r6 = some a9 ∧ ∃ f10, fR y5 a9 12 1 f10 ∧ ∃ a11, f10 = some a11 ∧ (∃ fs14, rd G y5 a11 (ob 18 fs14)) ∧ wp_J2_get G (fun r13 y12 => (∃ fs17, rd G y12 a0 (ob 16 fs17)) ∧ rc (fun b16 y15 => (b16 = true → post false y15) ∧ (b16 = false → post true y15)) y12 a0 r13) y5 a11 (nI 0)) ∧ (¬ x7 = nI 0 → (x7 = nI 1 → ∃ I20 : Nat → HS → Int32 → Prop, (∃ n26, I20 n26 y5 (nI 0)) ∧ ∀ (n21 : Nat) (y22 : HS) (x25 : Int32), I20 n21 y22 x25 → ∃ a27, r6 = some a27 ∧ ∃ f28, fR y22 a27 12 1 f28 ∧ ∃ a29, f28 = some a29 ∧ (∃ fs32, rd G y22 a29 (ob 18 fs32)) ∧ wp_J2_size G (fun x31 y30 => (x31 ≤ x25 → post true y30) ∧ (¬ x31 ≤ x25 → ∃ f34, fR y30 a27 12 1 f34 ∧ ∃ a35, f34 = some a35 ∧ (∃ fs38, rd G y30 a35 (ob 18 fs38)) ∧ wp_J2_get G (fun r37 y36 => (∃ fs41, rd G y36 a0 (ob 16 fs41)) ∧ rc (fun b40 y39 => (b40 = true → ∃ n43, n43 < n21 ∧ I20 n43 y39 (x25 + nI 1)) ∧ (b40 = false → post false y39)) y36 a0 r37) y30 a35 x25)) y22 a29) ∧ (¬ x7 = nI 1 → ∃ I46 : Nat → HS → Int32 → Prop, (∃ n52, I46 n52 y5 (nI 0)) ∧ ∀ (n47 : Nat) (y48 : HS) (x51 : Int32), I46 n47 y48 x51 → ∃ a53, r6 = some a53 ∧ ∃ f54, fR y48 a53 12 1 f54 ∧ ∃ a55, f54 = some a55 ∧ (∃ fs58, rd G y48 a55 (ob 18 fs58)) ∧ wp_J2_size G (fun x57 y56 => (x57 ≤ x51 → post false y56) ∧ (¬ x57 ≤ x51 → ∃ f60, fR y56 a53 12 1 f60 ∧ ∃ a61, f60 = some a61 ∧ (∃ fs64, rd G y56 a61 (ob 18 fs64)) ∧ wp_J2_get G (fun r63 y62 => (∃ fs67, rd G y62 a0 (ob 16 fs67)) ∧ rc (fun b66 y65 => (b66 = false → ∃ n69, n69 < n47 ∧ I46 n69 y65 (x51 + nI 1)) ∧ (b66 = true → post true y65)) y62 a0 r63) y56 a61 x51)) y48 a55))) ∧ (isOf G y0 p1 12 ∧ ∃ a72, p1 = some a72 ∧ ∃ f73, fR y0 a72 12 0 f73 ∧ ∃ a74, f73 = some a74 ∧ (∃ fs77, rd G y0 a74 (ob 20 fs77)) ∧ wp_J5_hashCode G (fun x76 y75 => (x76 = nI 96727 → (∃ fs81, rd G y75 a74 (ob 20 fs81)) ∧ wp_J5_equals G (fun b80 y79 => (b80 = false → J3 y79 (some a72) ((-1))) ∧ (b80 = true → J3 y79 (some a72) (nI 1))) y75 a74 (some (gK G 1))) ∧ (¬ x76 = nI 96727 → (x76 = nI 109267 → (∃ fs86, rd G y75 a74 (ob 20 fs86)) ∧ wp_J5_equals G (fun b85 y84 => (b85 = false → J3 y84 (some a72) ((-1))) ∧ (b85 = true → J3 y84 (some a72) (nI 0))) y75 a74 (some (gK G 12))) ∧ (¬ x76 = nI 109267 → J3 y75 (some a72) ((-1))))) y0 a74)) ∧ (b1 = true → isOf G y0 p1 13 ∧ (∃ fs91, rd G y0 a0 (ob 16 fs91)) ∧ wp_X18_holds G (fun b90 y89 => post b90 y89) y0 a0 p1)
theorem hs_X3_is_r16 : yX3_is.cls ≠ "java/lang/invoke/MethodHandle" ∧ yX3_is.cls ≠ "java/lang/invoke/VarHandle" ∧ (parseMethodDescriptor yX3_is.desc).map (fun d => d.parameters.length) = some 1 := by decide +kernel
theorem hd_X3_is_r16 : yX3_is.cls = RX3 ∧ yX3_is.cls ≠ "java/lang/invoke/MethodHandle" ∧ yX3_is.cls ≠ "java/lang/invoke/VarHandle" ∧ (parseMethodDescriptor yX3_is.desc).map (fun d => d.parameters.length) = some 1 := by decide +kernel
def d_is16 : Nat := 41
def wp_is16 (G : GP) : Nat → (Bool → HS → Prop) → HS → Nat → (Option Nat) → Prop
  | 0 => fun _ _ _ _ => False
  | k + 1 => wb_X3_is_r16 G (wp_is16 G k)
set_option maxHeartbeats 4000000 in
theorem met_X3_is_r16 (l : Launch) (G : GP) (d : Nat) : ∀ (k : Nat) {post : Bool → HS → Prop} {y0 : HS} {a0 : Nat} {p1 : Option Nat}, wp_is16 G k post y0 a0 p1 → vx_Met l yX3_is (ws_ yX3_is cX3_is 6 (some .boolean)) (rmB (d + k + 4) 0) (hPc G y0 [va_rf (some a0), va_rf p1]) (hQz G y0 post) (hX G y0 (fun _ _ _ => False)) 0 (20 * 0) (HA y0) := by
  intro k
  induction k with
  | zero => intro post y0 a0 p1 hw; exact hw.elim
  | succ k ih =>
    intro post y0 a0 p1 hw
    replace hw : wb_X3_is_r16 G (wp_is16 G k) post y0 a0 p1 := hw
    unfold wb_X3_is_r16 at hw
    refine hv_met (own := RX3) (by decide) rfl (by simp [lg_sl, va_rf_cat, int_cat, long_cat]) ?_
    intro p e s m args below meth c ls E hr hlocks hnm hE hK hI hl
    replace hl : lv_has ls 6 [(0, va_rf (some a0)), (1, va_rf p1)] := by simpa [lv_args, va_rf_cat, int_cat, long_cat] using hl
    refine hv_aload_n (r := p1) E.1 E.2.1 dX3_is_0 rfl (lv_at hl 1 rfl) ?_
    obtain ⟨b1, hin, hw⟩ := hw
    refine hv_inst (cn := 13) E hK hI (by decide) q1303 hin dX3_is_1 ?_
    refine lv_if_eq (tgt := 18) E.1 E.2.1 dX3_is_4 (by decide) (fun c2 => ?_) (fun c2 => ?_)
    · replace hw := hw.1 (bi_z c2)
      obtain ⟨J3, hj88, hw⟩ := hw
      have jh4 : ∀ (y5 : HS) (r6 : Option Nat) (x7 : Int32), J3 y5 r6 x7 → ∀ (H : Heap) (locs : List Loc) (ls : Array Slot), HI G y0 y5 s H locs → lv_has ls 6 [(0, va_rf (some a0)), (2, va_rf r6), (4, .int (x7))] → W p l e (rmB (d + (k + 1) + 4) 0) s m args below meth c H locs 0 (20 * 0) (vx_MQ below (hQz G y0 post) (hX G y0 (fun _ _ _ => False)) args s 0 (20 * 0) (HA y0)) (F0 m 87 ls []) := by
        intro y5 r6 x7 hw H locs ls hI hl
        replace hw := hj88 y5 r6 x7 hw
        refine lv_iload E.1 E.2.1 dX3_is_87 (lv_at hl 2 rfl) ?_
        by_cases c8 : x7 = nI 0
        · replace hw := hw.1 c8
          have hti : x7.toInt = 0 := by rw [c8]; decide
          refine lv_lookup (tgt := 116) (off := 27) E.1 E.2.1 dX3_is_89 (by decide) (by rw [hti]; decide) (by decide) ?_
          refine hv_aload_n (r := some a0) E.1 E.2.1 dX3_is_116 rfl (lv_at hl 0 rfl) ?_
          refine hv_aload_n (r := r6) E.1 E.2.1 dX3_is_117 rfl (lv_at hl 1 rfl) ?_
          obtain ⟨a9, ea9, hw⟩ := hw
          revert hl hw; subst ea9; intro hl hw
          obtain ⟨f10, ⟨fs, hfs, hfk⟩, hw⟩ := hw
          refine hv_getN (v := va_rf f10) E hK hI ciX14 1 (Nat.le_of_ble_eq_true rfl) q1128 (fun _ h => h) (Or.inl hfs) hfk dX3_is_118 ?_
          refine lv_iconst (v := nI 0) E.1 E.2.1 dX3_is_121 rfl ?_
          obtain ⟨a11, ea11, hw⟩ := hw
          revert hl hw; subst ea11; intro hl hw
          obtain ⟨⟨fs14, hrv⟩, hw⟩ := hw
          have hq := hw
          clear hw
          refine hv_callq (u := 0) (B1 := 0) hI (vx_runV (As := [.int (nI 0)]) (rest := [va_rf (some a0)]) E (met_J2_get l G (d + k + 2) hq) (cwV 1 E.2.2.2.2 (lw_V q1351 q785 q786 q124 q787) rfl rfl rfl hd_J2_get (rm_ok (by omega) (by decide))) (hv_preV hK hI hrv rfl) rfl rfl hl.1 rfl (lv_room (by first | rfl | decide | (simp [va_rf_cat, int_cat, long_cat]; done) | (simp [va_rf_cat, int_cat, long_cat]; decide))) dX3_is_122 (hv_fit (by first | exact (Nat.le_refl 0) | omega))) (fun _ _ _ _ _ h => h.elim) (fun r13 y12 H locs hw hI => ?_)
          obtain ⟨⟨fs17, hrv⟩, hw⟩ := hw
          have hq := hw
          clear hw
          refine hv_callz (u := 0) (B1 := 0) hI (vx_runU (C := "CaseGrouper$Tried") (owner := "CaseGrouper$Facts") (x := ⟨"CaseGrouper$Facts", "is", "(Ljava/lang/Object;)Z"⟩) (As := [va_rf r13]) (rest := []) E (ih hq) (cw_any 1 E.2.2.2.2 (lw_meth q1302) rfl rfl q1297 q1299 (E.2.2.2.2 _ q1301) q1298 q126 (va_Decl.of (E.2.2.2.2 _ q1298) (E.2.2.2.2 _ q1302)) (by decide +kernel) (rm_ok (by omega) (by decide))) (hv_preV hK hI hrv rfl) rfl rfl hl.1 rfl (lv_room (by first | rfl | decide | (simp [va_rf_cat, int_cat, long_cat]; done) | (simp [va_rf_cat, int_cat, long_cat]; decide))) dX3_is_125 (hv_fit (by first | exact (Nat.le_refl 0) | omega))) (fun _ _ _ _ _ h => h.elim) (fun b16 y15 H locs hw hI => ?_)
          refine lv_if_ne (tgt := 135) E.1 E.2.1 dX3_is_128 (by decide) (fun c18 => ?_) (fun c18 => ?_)
          · replace hw := hw.1 (bi_n c18)
            refine lv_iconst (v := nI 0) E.1 E.2.1 dX3_is_135 rfl ?_
            exact hv_iretz (b := false) E hr hlocks hI (Nat.le_refl 0) rfl hw dX3_is_136
          · replace hw := hw.2 (bi_z c18)
            refine lv_iconst (v := nI 1) E.1 E.2.1 dX3_is_131 rfl ?_
            refine lv_goto (tgt := 136) E.1 E.2.1 dX3_is_132 (by decide) ?_
            exact hv_iretz (b := true) E hr hlocks hI (Nat.le_refl 0) rfl hw dX3_is_136
        replace hw := hw.2 c8
        by_cases c19 : x7 = nI 1
        · replace hw := hw.1 c19
          have hti : x7.toInt = 1 := by rw [c19]; decide
          refine lv_lookup (tgt := 137) (off := 48) E.1 E.2.1 dX3_is_89 (by decide) (by rw [hti]; decide) (by decide) ?_
          refine lv_iconst (v := nI 0) E.1 E.2.1 dX3_is_137 rfl ?_
          refine lv_istore (lv' := [(5, .int (nI 0)), (0, va_rf (some a0)), (2, va_rf r6), (4, .int (x7))]) E.1 E.2.1 dX3_is_138 hl (Nat.le_of_ble_eq_true rfl) (by first | rfl | decide | (simp [va_rf_cat, int_cat, long_cat]; done) | (simp [va_rf_cat, int_cat, long_cat]; decide)) (fun ls hl => ?_)
          obtain ⟨I20, ⟨n26, hi45⟩, hb44⟩ := hw
          have L24 : ∀ (n21 : Nat) (y22 : HS) (x25 : Int32), I20 n21 y22 x25 → ∀ (H : Heap) (locs : List Loc) (ls : Array Slot), HI G y0 y22 s H locs → lv_has ls 6 [(0, va_rf (some a0)), (2, va_rf r6), (5, .int (x25))] → W p l e (rmB (d + (k + 1) + 4) 0) s m args below meth c H locs 0 (20 * 0) (vx_MQ below (hQz G y0 post) (hX G y0 (fun _ _ _ => False)) args s 0 (20 * 0) (HA y0)) (F0 m 140 ls []) := by
            intro n21
            induction n21 using Nat.strongRecOn with
            | _ n21 ih23 =>
              intro y22 x25 hw H locs ls hI hl
              replace hw := hb44 n21 y22 x25 hw
              refine lv_iload E.1 E.2.1 dX3_is_140 (lv_at hl 2 rfl) ?_
              refine hv_aload_n (r := r6) E.1 E.2.1 dX3_is_142 rfl (lv_at hl 1 rfl) ?_
              obtain ⟨a27, ea27, hw⟩ := hw
              revert hl hw; subst ea27; intro hl hw
              obtain ⟨f28, ⟨fs, hfs, hfk⟩, hw⟩ := hw
              refine hv_getN (v := va_rf f28) E hK hI ciX14 1 (Nat.le_of_ble_eq_true rfl) q1128 (fun _ h => h) (Or.inl hfs) hfk dX3_is_143 ?_
              obtain ⟨a29, ea29, hw⟩ := hw
              revert hl hw; subst ea29; intro hl hw
              obtain ⟨⟨fs32, hrv⟩, hw⟩ := hw
              have hq := hw
              clear hw
              refine hv_calli (u := 0) (B1 := 0) hI (vx_runV (As := []) (rest := [.int (x25)]) E (met_J2_size l G (d + k + 4) hq) (cwV 0 E.2.2.2.2 (lw_V q1352 q752 q753 q124 q754) rfl rfl rfl hd_J2_size (rm_ok (by omega) (by decide))) (hv_preV hK hI hrv rfl) rfl rfl hl.1 rfl (lv_room (by first | rfl | decide | (simp [va_rf_cat, int_cat, long_cat]; done) | (simp [va_rf_cat, int_cat, long_cat]; decide))) dX3_is_146 (hv_fit (by first | exact (Nat.le_refl 0) | omega))) (fun _ _ _ _ _ h => h.elim) (fun x31 y30 H locs hw hI => ?_)
              refine lv_icmp_ge (tgt := 176) E.1 E.2.1 dX3_is_149 (by decide) (fun c33 => ?_) (fun c33 => ?_)
              · replace hw := hw.1 (c33)
                refine lv_iconst (v := nI 1) E.1 E.2.1 dX3_is_176 rfl ?_
                exact hv_iretz (b := true) E hr hlocks hI (Nat.le_refl 0) rfl hw dX3_is_177
              · replace hw := hw.2 (c33)
                refine hv_aload_n (r := some a0) E.1 E.2.1 dX3_is_152 rfl (lv_at hl 0 rfl) ?_
                refine hv_aload_n (r := some a27) E.1 E.2.1 dX3_is_153 rfl (lv_at hl 1 rfl) ?_
                obtain ⟨f34, ⟨fs, hfs, hfk⟩, hw⟩ := hw
                refine hv_getN (v := va_rf f34) E hK hI ciX14 1 (Nat.le_of_ble_eq_true rfl) q1128 (fun _ h => h) (Or.inl hfs) hfk dX3_is_154 ?_
                refine lv_iload E.1 E.2.1 dX3_is_157 (lv_at hl 2 rfl) ?_
                obtain ⟨a35, ea35, hw⟩ := hw
                revert hl hw; subst ea35; intro hl hw
                obtain ⟨⟨fs38, hrv⟩, hw⟩ := hw
                have hq := hw
                clear hw
                refine hv_callq (u := 0) (B1 := 0) hI (vx_runV (As := [.int (x25)]) (rest := [va_rf (some a0)]) E (met_J2_get l G (d + k + 2) hq) (cwV 1 E.2.2.2.2 (lw_V q1351 q785 q786 q124 q787) rfl rfl rfl hd_J2_get (rm_ok (by omega) (by decide))) (hv_preV hK hI hrv rfl) rfl rfl hl.1 rfl (lv_room (by first | rfl | decide | (simp [va_rf_cat, int_cat, long_cat]; done) | (simp [va_rf_cat, int_cat, long_cat]; decide))) dX3_is_159 (hv_fit (by first | exact (Nat.le_refl 0) | omega))) (fun _ _ _ _ _ h => h.elim) (fun r37 y36 H locs hw hI => ?_)
                obtain ⟨⟨fs41, hrv⟩, hw⟩ := hw
                have hq := hw
                clear hw
                refine hv_callz (u := 0) (B1 := 0) hI (vx_runU (C := "CaseGrouper$Tried") (owner := "CaseGrouper$Facts") (x := ⟨"CaseGrouper$Facts", "is", "(Ljava/lang/Object;)Z"⟩) (As := [va_rf r37]) (rest := []) E (ih hq) (cw_any 1 E.2.2.2.2 (lw_meth q1302) rfl rfl q1297 q1299 (E.2.2.2.2 _ q1301) q1298 q126 (va_Decl.of (E.2.2.2.2 _ q1298) (E.2.2.2.2 _ q1302)) (by decide +kernel) (rm_ok (by omega) (by decide))) (hv_preV hK hI hrv rfl) rfl rfl hl.1 rfl (lv_room (by first | rfl | decide | (simp [va_rf_cat, int_cat, long_cat]; done) | (simp [va_rf_cat, int_cat, long_cat]; decide))) dX3_is_162 (hv_fit (by first | exact (Nat.le_refl 0) | omega))) (fun _ _ _ _ _ h => h.elim) (fun b40 y39 H locs hw hI => ?_)
                refine lv_if_ne (tgt := 170) E.1 E.2.1 dX3_is_165 (by decide) (fun c42 => ?_) (fun c42 => ?_)
                · replace hw := hw.1 (bi_n c42)
                  refine lv_iinc (k := 2) (v := x25 + nI 1) (lv' := [(5, .int (x25 + nI 1)), (0, va_rf (some a0)), (2, va_rf (some a27))]) E.1 E.2.1 dX3_is_170 hl rfl rfl (Nat.le_of_ble_eq_true rfl) (by first | rfl | decide | (simp [va_rf_cat, int_cat, long_cat]; done) | (simp [va_rf_cat, int_cat, long_cat]; decide)) (fun ls hl => ?_)
                  refine lv_goto (tgt := 140) E.1 E.2.1 dX3_is_173 (by decide) ?_
                  obtain ⟨n43, hnn43, hin43⟩ := hw
                  exact ih23 n43 hnn43 _ _ hin43 _ _ _ hI (lv_sub hl [1, 2, 0] rfl)
                · replace hw := hw.2 (bi_z c42)
                  refine lv_iconst (v := nI 0) E.1 E.2.1 dX3_is_168 rfl ?_
                  exact hv_iretz (b := false) E hr hlocks hI (Nat.le_refl 0) rfl hw dX3_is_169
          exact L24 n26 _ _ hi45 _ _ _ hI (lv_sub hl [1, 2, 0] rfl)
        replace hw := hw.2 c19
        refine lv_lookup (tgt := 178) (off := 89) E.1 E.2.1 dX3_is_89 (by decide) ((lv_osw c8 (by decide)).trans ((lv_osw c19 (by decide)).trans rfl)) (by decide) ?_
        · skip
          refine lv_iconst (v := nI 0) E.1 E.2.1 dX3_is_178 rfl ?_
          refine lv_istore (lv' := [(5, .int (nI 0)), (0, va_rf (some a0)), (2, va_rf r6), (4, .int (x7))]) E.1 E.2.1 dX3_is_179 hl (Nat.le_of_ble_eq_true rfl) (by first | rfl | decide | (simp [va_rf_cat, int_cat, long_cat]; done) | (simp [va_rf_cat, int_cat, long_cat]; decide)) (fun ls hl => ?_)
          obtain ⟨I46, ⟨n52, hi71⟩, hb70⟩ := hw
          have L50 : ∀ (n47 : Nat) (y48 : HS) (x51 : Int32), I46 n47 y48 x51 → ∀ (H : Heap) (locs : List Loc) (ls : Array Slot), HI G y0 y48 s H locs → lv_has ls 6 [(0, va_rf (some a0)), (2, va_rf r6), (5, .int (x51))] → W p l e (rmB (d + (k + 1) + 4) 0) s m args below meth c H locs 0 (20 * 0) (vx_MQ below (hQz G y0 post) (hX G y0 (fun _ _ _ => False)) args s 0 (20 * 0) (HA y0)) (F0 m 181 ls []) := by
            intro n47
            induction n47 using Nat.strongRecOn with
            | _ n47 ih49 =>
              intro y48 x51 hw H locs ls hI hl
              replace hw := hb70 n47 y48 x51 hw
              refine lv_iload E.1 E.2.1 dX3_is_181 (lv_at hl 2 rfl) ?_
              refine hv_aload_n (r := r6) E.1 E.2.1 dX3_is_183 rfl (lv_at hl 1 rfl) ?_
              obtain ⟨a53, ea53, hw⟩ := hw
              revert hl hw; subst ea53; intro hl hw
              obtain ⟨f54, ⟨fs, hfs, hfk⟩, hw⟩ := hw
              refine hv_getN (v := va_rf f54) E hK hI ciX14 1 (Nat.le_of_ble_eq_true rfl) q1128 (fun _ h => h) (Or.inl hfs) hfk dX3_is_184 ?_
              obtain ⟨a55, ea55, hw⟩ := hw
              revert hl hw; subst ea55; intro hl hw
              obtain ⟨⟨fs58, hrv⟩, hw⟩ := hw
              have hq := hw
              clear hw
              refine hv_calli (u := 0) (B1 := 0) hI (vx_runV (As := []) (rest := [.int (x51)]) E (met_J2_size l G (d + k + 4) hq) (cwV 0 E.2.2.2.2 (lw_V q1352 q752 q753 q124 q754) rfl rfl rfl hd_J2_size (rm_ok (by omega) (by decide))) (hv_preV hK hI hrv rfl) rfl rfl hl.1 rfl (lv_room (by first | rfl | decide | (simp [va_rf_cat, int_cat, long_cat]; done) | (simp [va_rf_cat, int_cat, long_cat]; decide))) dX3_is_187 (hv_fit (by first | exact (Nat.le_refl 0) | omega))) (fun _ _ _ _ _ h => h.elim) (fun x57 y56 H locs hw hI => ?_)
              refine lv_icmp_ge (tgt := 217) E.1 E.2.1 dX3_is_190 (by decide) (fun c59 => ?_) (fun c59 => ?_)
              · replace hw := hw.1 (c59)
                refine lv_iconst (v := nI 0) E.1 E.2.1 dX3_is_217 rfl ?_
                exact hv_iretz (b := false) E hr hlocks hI (Nat.le_refl 0) rfl hw dX3_is_218
              · replace hw := hw.2 (c59)
                refine hv_aload_n (r := some a0) E.1 E.2.1 dX3_is_193 rfl (lv_at hl 0 rfl) ?_
                refine hv_aload_n (r := some a53) E.1 E.2.1 dX3_is_194 rfl (lv_at hl 1 rfl) ?_
                obtain ⟨f60, ⟨fs, hfs, hfk⟩, hw⟩ := hw
                refine hv_getN (v := va_rf f60) E hK hI ciX14 1 (Nat.le_of_ble_eq_true rfl) q1128 (fun _ h => h) (Or.inl hfs) hfk dX3_is_195 ?_
                refine lv_iload E.1 E.2.1 dX3_is_198 (lv_at hl 2 rfl) ?_
                obtain ⟨a61, ea61, hw⟩ := hw
                revert hl hw; subst ea61; intro hl hw
                obtain ⟨⟨fs64, hrv⟩, hw⟩ := hw
                have hq := hw
                clear hw
                refine hv_callq (u := 0) (B1 := 0) hI (vx_runV (As := [.int (x51)]) (rest := [va_rf (some a0)]) E (met_J2_get l G (d + k + 2) hq) (cwV 1 E.2.2.2.2 (lw_V q1351 q785 q786 q124 q787) rfl rfl rfl hd_J2_get (rm_ok (by omega) (by decide))) (hv_preV hK hI hrv rfl) rfl rfl hl.1 rfl (lv_room (by first | rfl | decide | (simp [va_rf_cat, int_cat, long_cat]; done) | (simp [va_rf_cat, int_cat, long_cat]; decide))) dX3_is_200 (hv_fit (by first | exact (Nat.le_refl 0) | omega))) (fun _ _ _ _ _ h => h.elim) (fun r63 y62 H locs hw hI => ?_)
                obtain ⟨⟨fs67, hrv⟩, hw⟩ := hw
                have hq := hw
                clear hw
                refine hv_callz (u := 0) (B1 := 0) hI (vx_runU (C := "CaseGrouper$Tried") (owner := "CaseGrouper$Facts") (x := ⟨"CaseGrouper$Facts", "is", "(Ljava/lang/Object;)Z"⟩) (As := [va_rf r63]) (rest := []) E (ih hq) (cw_any 1 E.2.2.2.2 (lw_meth q1302) rfl rfl q1297 q1299 (E.2.2.2.2 _ q1301) q1298 q126 (va_Decl.of (E.2.2.2.2 _ q1298) (E.2.2.2.2 _ q1302)) (by decide +kernel) (rm_ok (by omega) (by decide))) (hv_preV hK hI hrv rfl) rfl rfl hl.1 rfl (lv_room (by first | rfl | decide | (simp [va_rf_cat, int_cat, long_cat]; done) | (simp [va_rf_cat, int_cat, long_cat]; decide))) dX3_is_203 (hv_fit (by first | exact (Nat.le_refl 0) | omega))) (fun _ _ _ _ _ h => h.elim) (fun b66 y65 H locs hw hI => ?_)
                refine lv_if_eq (tgt := 211) E.1 E.2.1 dX3_is_206 (by decide) (fun c68 => ?_) (fun c68 => ?_)
                · replace hw := hw.1 (bi_z c68)
                  refine lv_iinc (k := 2) (v := x51 + nI 1) (lv' := [(5, .int (x51 + nI 1)), (0, va_rf (some a0)), (2, va_rf (some a53))]) E.1 E.2.1 dX3_is_211 hl rfl rfl (Nat.le_of_ble_eq_true rfl) (by first | rfl | decide | (simp [va_rf_cat, int_cat, long_cat]; done) | (simp [va_rf_cat, int_cat, long_cat]; decide)) (fun ls hl => ?_)
                  refine lv_goto (tgt := 181) E.1 E.2.1 dX3_is_214 (by decide) ?_
                  obtain ⟨n69, hnn69, hin69⟩ := hw
                  exact ih49 n69 hnn69 _ _ hin69 _ _ _ hI (lv_sub hl [1, 2, 0] rfl)
                · replace hw := hw.2 (bi_n c68)
                  refine lv_iconst (v := nI 1) E.1 E.2.1 dX3_is_209 rfl ?_
                  exact hv_iretz (b := true) E hr hlocks hI (Nat.le_refl 0) rfl hw dX3_is_210
          exact L50 n52 _ _ hi71 _ _ _ hI (lv_sub hl [1, 2, 0] rfl)
      refine hv_aload_n (r := p1) E.1 E.2.1 dX3_is_18 rfl (lv_at hl 1 rfl) ?_
      obtain ⟨hof, hw⟩ := hw
      refine hv_castC (cn := 12) E hK hI (by decide) q1346 hof dX3_is_19 ?_
      refine hv_astore_n (r := p1) (lv' := [(2, va_rf p1), (0, va_rf (some a0)), (1, va_rf p1)]) E.1 E.2.1 dX3_is_22 rfl hl (Nat.le_of_ble_eq_true rfl) (by first | rfl | decide | (simp [va_rf_cat, int_cat, long_cat]; done) | (simp [va_rf_cat, int_cat, long_cat]; decide)) (fun ls hl => ?_)
      refine hv_aload_n (r := p1) E.1 E.2.1 dX3_is_23 rfl (lv_at hl 0 rfl) ?_
      obtain ⟨a72, ea72, hw⟩ := hw
      revert hl hw; subst ea72; intro hl hw
      obtain ⟨f73, ⟨fs, hfs, hfk⟩, hw⟩ := hw
      refine hv_getN (v := va_rf f73) E hK hI ciX14 0 (Nat.le_of_ble_eq_true rfl) q1126 (fun _ h => h) (Or.inl hfs) hfk dX3_is_24 ?_
      refine hv_astore_n (r := f73) (lv' := [(3, va_rf f73), (2, va_rf (some a72)), (0, va_rf (some a0)), (1, va_rf (some a72))]) E.1 E.2.1 dX3_is_27 rfl hl (Nat.le_of_ble_eq_true rfl) (by first | rfl | decide | (simp [va_rf_cat, int_cat, long_cat]; done) | (simp [va_rf_cat, int_cat, long_cat]; decide)) (fun ls hl => ?_)
      refine lv_iconst (v := (-1)) E.1 E.2.1 dX3_is_28 rfl ?_
      refine lv_istore (lv' := [(4, .int ((-1))), (3, va_rf f73), (2, va_rf (some a72)), (0, va_rf (some a0)), (1, va_rf (some a72))]) E.1 E.2.1 dX3_is_29 hl (Nat.le_of_ble_eq_true rfl) (by first | rfl | decide | (simp [va_rf_cat, int_cat, long_cat]; done) | (simp [va_rf_cat, int_cat, long_cat]; decide)) (fun ls hl => ?_)
      refine hv_aload_n (r := f73) E.1 E.2.1 dX3_is_31 rfl (lv_at hl 1 rfl) ?_
      obtain ⟨a74, ea74, hw⟩ := hw
      revert hl hw; subst ea74; intro hl hw
      obtain ⟨⟨fs77, hrv⟩, hw⟩ := hw
      have hq := hw
      clear hw
      refine hv_calli (u := 0) (B1 := 0) hI (vx_runV (As := []) (rest := []) E (met_J5_hashCode l G (d + k + 1) hq) (cwV 0 E.2.2.2.2 (lw_V q1347 q683 q684 q132 q685) rfl rfl rfl hd_J5_hashCode (rm_ok (by omega) (by decide))) (hv_preV hK hI hrv rfl) rfl rfl hl.1 rfl (lv_room (by first | rfl | decide | (simp [va_rf_cat, int_cat, long_cat]; done) | (simp [va_rf_cat, int_cat, long_cat]; decide))) dX3_is_32 (hv_fit (by first | exact (Nat.le_refl 0) | omega))) (fun _ _ _ _ _ h => h.elim) (fun x76 y75 H locs hw hI => ?_)
      by_cases c78 : x76 = nI 96727
      · replace hw := hw.1 c78
        have hti : x76.toInt = 96727 := by rw [c78]; decide
        refine lv_lookup (tgt := 75) (off := 40) E.1 E.2.1 dX3_is_35 (by decide) (by rw [hti]; decide) (by decide) ?_
        refine hv_aload_n (r := some a74) E.1 E.2.1 dX3_is_75 rfl (lv_at hl 1 rfl) ?_
        refine hv_ldcS E hK 3 1 rfl dX3_is_76 ?_
        obtain ⟨⟨fs81, hrv⟩, hw⟩ := hw
        have hq := hw
        clear hw
        refine hv_callz (u := 0) (B1 := 0) hI (vx_runV (As := [va_rf (some (gK G 1))]) (rest := []) E (met_J5_equals l G (d + k + 3) hq) (cwV 1 E.2.2.2.2 (lw_V q1349 q737 q738 q132 q739) rfl rfl rfl hd_J5_equals (rm_ok (by omega) (by decide))) (hv_preV hK hI hrv rfl) rfl rfl hl.1 rfl (lv_room (by first | rfl | decide | (simp [va_rf_cat, int_cat, long_cat]; done) | (simp [va_rf_cat, int_cat, long_cat]; decide))) dX3_is_78 (hv_fit (by first | exact (Nat.le_refl 0) | omega))) (fun _ _ _ _ _ h => h.elim) (fun b80 y79 H locs hw hI => ?_)
        refine lv_if_eq (tgt := 87) E.1 E.2.1 dX3_is_81 (by decide) (fun c82 => ?_) (fun c82 => ?_)
        · replace hw := hw.1 (bi_z c82)
          exact jh4 _ _ _ hw _ _ _ hI (lv_sub hl [3, 2, 0] rfl)
        · replace hw := hw.2 (bi_n c82)
          refine lv_iconst (v := nI 1) E.1 E.2.1 dX3_is_84 rfl ?_
          refine lv_istore (lv' := [(4, .int (nI 1)), (3, va_rf (some a74)), (2, va_rf (some a72)), (0, va_rf (some a0)), (1, va_rf (some a72))]) E.1 E.2.1 dX3_is_85 hl (Nat.le_of_ble_eq_true rfl) (by first | rfl | decide | (simp [va_rf_cat, int_cat, long_cat]; done) | (simp [va_rf_cat, int_cat, long_cat]; decide)) (fun ls hl => ?_)
          exact jh4 _ _ _ hw _ _ _ hI (lv_sub hl [3, 2, 0] rfl)
      replace hw := hw.2 c78
      by_cases c83 : x76 = nI 109267
      · replace hw := hw.1 c83
        have hti : x76.toInt = 109267 := by rw [c83]; decide
        refine lv_lookup (tgt := 60) (off := 25) E.1 E.2.1 dX3_is_35 (by decide) (by rw [hti]; decide) (by decide) ?_
        refine hv_aload_n (r := some a74) E.1 E.2.1 dX3_is_60 rfl (lv_at hl 1 rfl) ?_
        refine hv_ldcS E hK 2 12 rfl dX3_is_61 ?_
        obtain ⟨⟨fs86, hrv⟩, hw⟩ := hw
        have hq := hw
        clear hw
        refine hv_callz (u := 0) (B1 := 0) hI (vx_runV (As := [va_rf (some (gK G 12))]) (rest := []) E (met_J5_equals l G (d + k + 3) hq) (cwV 1 E.2.2.2.2 (lw_V q1349 q737 q738 q132 q739) rfl rfl rfl hd_J5_equals (rm_ok (by omega) (by decide))) (hv_preV hK hI hrv rfl) rfl rfl hl.1 rfl (lv_room (by first | rfl | decide | (simp [va_rf_cat, int_cat, long_cat]; done) | (simp [va_rf_cat, int_cat, long_cat]; decide))) dX3_is_63 (hv_fit (by first | exact (Nat.le_refl 0) | omega))) (fun _ _ _ _ _ h => h.elim) (fun b85 y84 H locs hw hI => ?_)
        refine lv_if_eq (tgt := 87) E.1 E.2.1 dX3_is_66 (by decide) (fun c87 => ?_) (fun c87 => ?_)
        · replace hw := hw.1 (bi_z c87)
          exact jh4 _ _ _ hw _ _ _ hI (lv_sub hl [3, 2, 0] rfl)
        · replace hw := hw.2 (bi_n c87)
          refine lv_iconst (v := nI 0) E.1 E.2.1 dX3_is_69 rfl ?_
          refine lv_istore (lv' := [(4, .int (nI 0)), (3, va_rf (some a74)), (2, va_rf (some a72)), (0, va_rf (some a0)), (1, va_rf (some a72))]) E.1 E.2.1 dX3_is_70 hl (Nat.le_of_ble_eq_true rfl) (by first | rfl | decide | (simp [va_rf_cat, int_cat, long_cat]; done) | (simp [va_rf_cat, int_cat, long_cat]; decide)) (fun ls hl => ?_)
          refine lv_goto (tgt := 87) E.1 E.2.1 dX3_is_72 (by decide) ?_
          exact jh4 _ _ _ hw _ _ _ hI (lv_sub hl [3, 2, 0] rfl)
      replace hw := hw.2 c83
      refine lv_lookup (tgt := 87) (off := 52) E.1 E.2.1 dX3_is_35 (by decide) ((lv_osw c78 (by decide)).trans ((lv_osw c83 (by decide)).trans rfl)) (by decide) ?_
      · skip
        exact jh4 _ _ _ hw _ _ _ hI (lv_sub hl [3, 2, 0] rfl)
    · replace hw := hw.2 (bi_n c2)
      refine hv_aload_n (r := p1) E.1 E.2.1 dX3_is_7 rfl (lv_at hl 1 rfl) ?_
      obtain ⟨hof, hw⟩ := hw
      refine hv_castC (cn := 13) E hK hI (by decide) q1303 hof dX3_is_8 ?_
      refine hv_astore_n (r := p1) (lv' := [(2, va_rf p1), (0, va_rf (some a0)), (1, va_rf p1)]) E.1 E.2.1 dX3_is_11 rfl hl (Nat.le_of_ble_eq_true rfl) (by first | rfl | decide | (simp [va_rf_cat, int_cat, long_cat]; done) | (simp [va_rf_cat, int_cat, long_cat]; decide)) (fun ls hl => ?_)
      refine hv_aload_n (r := some a0) E.1 E.2.1 dX3_is_12 rfl (lv_at hl 1 rfl) ?_
      refine hv_aload_n (r := p1) E.1 E.2.1 dX3_is_13 rfl (lv_at hl 0 rfl) ?_
      obtain ⟨⟨fs91, hrv⟩, hw⟩ := hw
      have hq := hw
      clear hw
      refine hv_callz (u := 0) (B1 := 0) hI (vx_runU (C := "CaseGrouper$Tried") (owner := "CaseGrouper$Facts") (x := ⟨"CaseGrouper$Facts", "holds", "(LCaseGrouper$Atom;)Z"⟩) (As := [va_rf p1]) (rest := []) E (met_X18_holds l G (d + k + 2) hq) (cw_any 1 E.2.2.2.2 (lw_meth q1338) rfl rfl q1304 q1306 (E.2.2.2.2 _ q1336) q1337 q162 (va_Decl.abs (hK.2.2.2.2.1 _ q1305 rfl)) (by decide +kernel) (rm_ok (by omega) (by decide))) (hv_preV hK hI hrv rfl) rfl rfl hl.1 rfl (lv_room (by first | rfl | decide | (simp [va_rf_cat, int_cat, long_cat]; done) | (simp [va_rf_cat, int_cat, long_cat]; decide))) dX3_is_14 (hv_fit (by first | exact (Nat.le_refl 0) | omega))) (fun _ _ _ _ _ h => h.elim) (fun b90 y89 H locs hw hI => ?_)
      exact hv_iretz (b := b90) E hr hlocks hI (Nat.le_refl 0) rfl hw dX3_is_17
/-- CaseGrouper$Facts.goes(Ljava/lang/Object;)LCaseGrouper$Leaf; -/
def wb_X3_goes_r16 (G : GP) (rc : (Option Nat → HS → Prop) → HS → Nat → (Option Nat) → Prop) (post : Option Nat → HS → Prop) (y0 : HS) (a0 : Nat) (p1 : Option Nat) : Prop := ∃ b1, isIn G y0 p1 11 b1 ∧ (b1 = false → ∃ J3 : HS → Bool → (Option Nat) → (Option Nat) → Prop, (∀ (y5 : HS) (b6 : Bool) (r7 : Option Nat) (r8 : Option Nat), J3 y5 b6 r7 r8 → ∃ a9, r7 = some a9 ∧ ∃ (n10 : Nat) (g11 : Nat → Option Nat), rd G y5 a9 (ar 6 n10 g11) ∧ vp_in (bi b6) n10 ∧ ∃ a12, r8 = some a12 ∧ (∃ fs15, rd G y5 a12 (ob 16 fs15)) ∧ rc (fun r14 y13 => post r14 y13) y5 a12 (g11 (bi b6).toNatClampNeg)) ∧ (isOf G y0 p1 14 ∧ ∃ a16, p1 = some a16 ∧ ∃ f17, fR y0 a16 14 0 f17 ∧ (∃ fs20, rd G y0 a0 (ob 16 fs20)) ∧ wp_is16 G d_is16 (fun b19 y18 => (∃ fs22, rd G y18 a0 (ob 16 fs22)) ∧ wp_X3_answers_r16 G (fun y21 => ∃ f23, fR y21 a16 14 1 f23 ∧ (b19 = false → J3 y21 true f23 (some a0)) ∧ (b19 = true → J3 y21 false f23 (some a0))) y18 a0 b19) y0 a0 f17)) ∧ (b1 = true → isOf G y0 p1 11 ∧ post p1 y0)
theorem hs_X3_goes_r16 : yX3_goes.cls ≠ "java/lang/invoke/MethodHandle" ∧ yX3_goes.cls ≠ "java/lang/invoke/VarHandle" ∧ (parseMethodDescriptor yX3_goes.desc).map (fun d => d.parameters.length) = some 1 := by decide +kernel
theorem hd_X3_goes_r16 : yX3_goes.cls = RX3 ∧ yX3_goes.cls ≠ "java/lang/invoke/MethodHandle" ∧ yX3_goes.cls ≠ "java/lang/invoke/VarHandle" ∧ (parseMethodDescriptor yX3_goes.desc).map (fun d => d.parameters.length) = some 1 := by decide +kernel
def d_goes16 : Nat := 12
def wp_goes16 (G : GP) : Nat → (Option Nat → HS → Prop) → HS → Nat → (Option Nat) → Prop
  | 0 => fun _ _ _ _ => False
  | k + 1 => wb_X3_goes_r16 G (wp_goes16 G k)
set_option maxHeartbeats 4000000 in
theorem met_X3_goes_r16 (l : Launch) (G : GP) (d : Nat) : ∀ (k : Nat) {post : Option Nat → HS → Prop} {y0 : HS} {a0 : Nat} {p1 : Option Nat}, wp_goes16 G k post y0 a0 p1 → vx_Met l yX3_goes (ws_ yX3_goes cX3_goes 4 (some (.object "CaseGrouper$Leaf"))) (rmB (d + k + 46) 0) (hPc G y0 [va_rf (some a0), va_rf p1]) (hQq G y0 post) (hX G y0 (fun _ _ _ => False)) 0 (20 * 0) (HA y0) := by
  intro k
  induction k with
  | zero => intro post y0 a0 p1 hw; exact hw.elim
  | succ k ih =>
    intro post y0 a0 p1 hw
    replace hw : wb_X3_goes_r16 G (wp_goes16 G k) post y0 a0 p1 := hw
    have hD_is16 : d_is16 = 41 := rfl
    unfold wb_X3_goes_r16 at hw
    refine hv_met (own := RX3) (by decide) rfl (by simp [lg_sl, va_rf_cat, int_cat, long_cat]) ?_
    intro p e s m args below meth c ls E hr hlocks hnm hE hK hI hl
    replace hl : lv_has ls 4 [(0, va_rf (some a0)), (1, va_rf p1)] := by simpa [lv_args, va_rf_cat, int_cat, long_cat] using hl
    refine hv_aload_n (r := p1) E.1 E.2.1 dX3_goes_0 rfl (lv_at hl 1 rfl) ?_
    obtain ⟨b1, hin, hw⟩ := hw
    refine hv_inst (cn := 11) E hK hI (by decide) q1295 hin dX3_goes_1 ?_
    refine lv_if_eq (tgt := 14) E.1 E.2.1 dX3_goes_4 (by decide) (fun c2 => ?_) (fun c2 => ?_)
    · replace hw := hw.1 (bi_z c2)
      obtain ⟨J3, hj25, hw⟩ := hw
      have jh4 : ∀ (y5 : HS) (b6 : Bool) (r7 : Option Nat) (r8 : Option Nat), J3 y5 b6 r7 r8 → ∀ (H : Heap) (locs : List Loc) (ls : Array Slot), HI G y0 y5 s H locs → lv_has ls 4 [] → W p l e (rmB (d + (k + 1) + 46) 0) s m args below meth c H locs 0 (20 * 0) (vx_MQ below (hQq G y0 post) (hX G y0 (fun _ _ _ => False)) args s 0 (20 * 0) (HA y0)) (F0 m 47 ls [.int (bi b6), va_rf r7, va_rf r8]) := by
        intro y5 b6 r7 r8 hw H locs ls hI hl
        replace hw := hj25 y5 b6 r7 r8 hw
        obtain ⟨a9, ea9, hw⟩ := hw
        revert hl hw; subst ea9; intro hl hw
        obtain ⟨n10, g11, hra, hin, hw⟩ := hw
        refine hv_aald E hK hI hra rfl rfl hin dX3_goes_47 ?_
        obtain ⟨a12, ea12, hw⟩ := hw
        revert hl hw; subst ea12; intro hl hw
        obtain ⟨⟨fs15, hrv⟩, hw⟩ := hw
        have hq := hw
        clear hw
        refine hv_callq (u := 0) (B1 := 0) hI (vx_runU (C := "CaseGrouper$Tried") (owner := "CaseGrouper$Facts") (x := ⟨"CaseGrouper$Facts", "goes", "(Ljava/lang/Object;)LCaseGrouper$Leaf;"⟩) (As := [va_rf (g11 (bi b6).toNatClampNeg)]) (rest := []) E (ih hq) (cw_any 1 E.2.2.2.2 (lw_meth q1294) rfl rfl q1361 q2461 (E.2.2.2.2 _ q2463) q1293 q126 (va_Decl.of (E.2.2.2.2 _ q1293) (E.2.2.2.2 _ q1294)) (by decide +kernel) (rm_ok (by omega) (by decide))) (hv_preV hK hI hrv rfl) rfl rfl hl.1 rfl (lv_room (by first | rfl | decide | (simp [va_rf_cat, int_cat, long_cat]; done) | (simp [va_rf_cat, int_cat, long_cat]; decide))) dX3_goes_48 (hv_fit (by first | exact (Nat.le_refl 0) | omega))) (fun _ _ _ _ _ h => h.elim) (fun r14 y13 H locs hw hI => ?_)
        exact hv_aret (r := r14) E hr (Or.inl ⟨_, rfl⟩) hlocks hI (Nat.le_refl 0) hw dX3_goes_51
      refine hv_aload_n (r := p1) E.1 E.2.1 dX3_goes_14 rfl (lv_at hl 1 rfl) ?_
      obtain ⟨hof, hw⟩ := hw
      refine hv_castC (cn := 14) E hK hI (by decide) q1296 hof dX3_goes_15 ?_
      refine hv_astore_n (r := p1) (lv' := [(2, va_rf p1), (0, va_rf (some a0)), (1, va_rf p1)]) E.1 E.2.1 dX3_goes_18 rfl hl (Nat.le_of_ble_eq_true rfl) (by first | rfl | decide | (simp [va_rf_cat, int_cat, long_cat]; done) | (simp [va_rf_cat, int_cat, long_cat]; decide)) (fun ls hl => ?_)
      refine hv_aload_n (r := some a0) E.1 E.2.1 dX3_goes_19 rfl (lv_at hl 1 rfl) ?_
      refine hv_aload_n (r := p1) E.1 E.2.1 dX3_goes_20 rfl (lv_at hl 0 rfl) ?_
      obtain ⟨a16, ea16, hw⟩ := hw
      revert hl hw; subst ea16; intro hl hw
      obtain ⟨f17, ⟨fs, hfs, hfk⟩, hw⟩ := hw
      refine hv_getN (v := va_rf f17) E hK hI ciX16 0 (Nat.le_of_ble_eq_true rfl) q1210 (fun _ h => h) (Or.inl hfs) hfk dX3_goes_21 ?_
      obtain ⟨⟨fs20, hrv⟩, hw⟩ := hw
      have hq := hw
      clear hw
      refine hv_callz (u := 0) (B1 := 0) hI (vx_runU (C := "CaseGrouper$Tried") (owner := "CaseGrouper$Facts") (x := ⟨"CaseGrouper$Facts", "is", "(Ljava/lang/Object;)Z"⟩) (As := [va_rf f17]) (rest := []) E (met_X3_is_r16 l G (d + k + 1) d_is16 hq) (cw_any 1 E.2.2.2.2 (lw_meth q1302) rfl rfl q1297 q1299 (E.2.2.2.2 _ q1301) q1298 q126 (va_Decl.of (E.2.2.2.2 _ q1298) (E.2.2.2.2 _ q1302)) (by decide +kernel) (rm_ok (by omega) (by decide))) (hv_preV hK hI hrv rfl) rfl rfl hl.1 rfl (lv_room (by first | rfl | decide | (simp [va_rf_cat, int_cat, long_cat]; done) | (simp [va_rf_cat, int_cat, long_cat]; decide))) dX3_goes_24 (hv_fit (by first | exact (Nat.le_refl 0) | omega))) (fun _ _ _ _ _ h => h.elim) (fun b19 y18 H locs hw hI => ?_)
      refine lv_istore_n (lv' := [(3, .int (bi b19)), (2, va_rf (some a16)), (0, va_rf (some a0)), (1, va_rf (some a16))]) E.1 E.2.1 dX3_goes_27 rfl hl (Nat.le_of_ble_eq_true rfl) (by first | rfl | decide | (simp [va_rf_cat, int_cat, long_cat]; done) | (simp [va_rf_cat, int_cat, long_cat]; decide)) (fun ls hl => ?_)
      refine hv_aload_n (r := some a0) E.1 E.2.1 dX3_goes_28 rfl (lv_at hl 2 rfl) ?_
      refine lv_iload_n E.1 E.2.1 dX3_goes_29 rfl (lv_at hl 0 rfl) ?_
      obtain ⟨⟨fs22, hrv⟩, hw⟩ := hw
      have hq := hw
      clear hw
      refine hv_callv (u := 0) (B1 := 0) hI (vx_runU (C := "CaseGrouper$Tried") (owner := "CaseGrouper$Facts") (x := ⟨"CaseGrouper$Facts", "answers", "(Z)V"⟩) (As := [.int (bi b19)]) (rest := []) E (met_X3_answers_r16 l G (d + k + 46) hq) (cw_any 1 E.2.2.2.2 (lw_meth q1360) rfl rfl q1353 q1355 (E.2.2.2.2 _ q1359) q1354 q126 (va_Decl.of (E.2.2.2.2 _ q1354) (E.2.2.2.2 _ q1360)) (by decide +kernel) (rm_ok (by omega) (by decide))) (hv_preV hK hI hrv rfl) rfl rfl hl.1 rfl (lv_room (by first | rfl | decide | (simp [va_rf_cat, int_cat, long_cat]; done) | (simp [va_rf_cat, int_cat, long_cat]; decide))) dX3_goes_30 (hv_fit (by first | exact (Nat.le_refl 0) | omega))) (fun _ _ _ _ _ h => h.elim) (fun y21 H locs hw hI => ?_)
      refine hv_aload_n (r := some a0) E.1 E.2.1 dX3_goes_33 rfl (lv_at hl 2 rfl) ?_
      refine hv_aload_n (r := some a16) E.1 E.2.1 dX3_goes_34 rfl (lv_at hl 1 rfl) ?_
      obtain ⟨f23, ⟨fs, hfs, hfk⟩, hw⟩ := hw
      refine hv_getN (v := va_rf f23) E hK hI ciX16 1 (Nat.le_of_ble_eq_true rfl) q1212 (fun _ h => h) (Or.inl hfs) hfk dX3_goes_35 ?_
      refine lv_iload_n E.1 E.2.1 dX3_goes_38 rfl (lv_at hl 0 rfl) ?_
      refine lv_if_eq (tgt := 46) E.1 E.2.1 dX3_goes_39 (by decide) (fun c24 => ?_) (fun c24 => ?_)
      · replace hw := hw.1 (bi_z c24)
        refine lv_iconst (v := nI 1) E.1 E.2.1 dX3_goes_46 rfl ?_
        exact jh4 _ _ _ _ hw _ _ _ hI (lv_sub hl [] rfl)
      · replace hw := hw.2 (bi_n c24)
        refine lv_iconst (v := nI 0) E.1 E.2.1 dX3_goes_42 rfl ?_
        refine lv_goto (tgt := 47) E.1 E.2.1 dX3_goes_43 (by decide) ?_
        exact jh4 _ _ _ _ hw _ _ _ hI (lv_sub hl [] rfl)
    · replace hw := hw.2 (bi_n c2)
      refine hv_aload_n (r := p1) E.1 E.2.1 dX3_goes_7 rfl (lv_at hl 1 rfl) ?_
      obtain ⟨hof, hw⟩ := hw
      refine hv_castC (cn := 11) E hK hI (by decide) q1295 hof dX3_goes_8 ?_
      refine hv_astore_n (r := p1) (lv' := [(2, va_rf p1), (0, va_rf (some a0)), (1, va_rf p1)]) E.1 E.2.1 dX3_goes_11 rfl hl (Nat.le_of_ble_eq_true rfl) (by first | rfl | decide | (simp [va_rf_cat, int_cat, long_cat]; done) | (simp [va_rf_cat, int_cat, long_cat]; decide)) (fun ls hl => ?_)
      refine hv_aload_n (r := p1) E.1 E.2.1 dX3_goes_12 rfl (lv_at hl 0 rfl) ?_
      exact hv_aret (r := p1) E hr (Or.inl ⟨_, rfl⟩) hlocks hI (Nat.le_refl 0) hw dX3_goes_13
/-- CaseGrouper$Seen.<init>()V -/
def wp_X4_init (G : GP) (post : HS → Prop) (y0 : HS) (a0 : Nat) : Prop := wp_X3_init_r2 G (fun y1 => post y1) y0 a0
theorem hs_X4_init : yX4_init.cls ≠ "java/lang/invoke/MethodHandle" ∧ yX4_init.cls ≠ "java/lang/invoke/VarHandle" ∧ (parseMethodDescriptor yX4_init.desc).map (fun d => d.parameters.length) = some 0 := by decide +kernel
set_option maxHeartbeats 4000000 in
theorem met_X4_init (l : Launch) (G : GP) (d : Nat) {post : HS → Prop} {y0 : HS} {a0 : Nat} (hw : wp_X4_init G post y0 a0) : vx_Met l yX4_init (ws_ yX4_init cX4_init 1 none) (rmB (d + 2) 0) (hPc G y0 [va_rf (some a0)]) (hQv G y0 post) (hX G y0 (fun _ _ _ => False)) 0 (20 * 0) (HA y0) := by
  unfold wp_X4_init at hw
  refine hv_met (own := RX4) (by decide) rfl (Nat.le_of_ble_eq_true rfl) ?_
  intro p e s m args below meth c ls E hr hlocks hnm hE hK hI hl
  replace hl : lv_has ls 1 [(0, va_rf (some a0))] := hl
  refine hv_aload_n (r := some a0) E.1 E.2.1 dX4_init_0 rfl (lv_at hl 0 rfl) ?_
  have hq := hw
  clear hw
  refine hv_callv (u := 0) (B1 := 0) hI (vx_runIN (R := rmB (d + 2) 0) (b := a0) (As := []) (rest := []) E (met_X3_init_r2 l G (d) hq) ⟨va_cnB 0 E.2.2.2.2 (lw_meth q1254) rfl rfl rfl (hK.2.2.2.2.1 _ q1387 rfl) (E.2.2.2.2 _ q126) hs_X3_init_r2 (rm_ok (by omega) (by decide)), rfl, E.2.2.2.2 _ q1253⟩ (hv_preS hK hI) rfl rfl hl.1 rfl (lv_room (by first | rfl | decide | (simp [va_rf_cat, int_cat, long_cat]; done) | (simp [va_rf_cat, int_cat, long_cat]; decide))) dX4_init_1 (hv_fit (by first | exact (Nat.le_refl 0) | omega))) (fun _ _ _ _ _ h => h.elim) (fun y1 H locs hw hI => ?_)
  exact hv_vret E hr hlocks hI (Nat.le_refl 0) hw dX4_init_4
/-- CaseGrouper.haveAny(Ljava/util/ArrayList;I)Z -/
def wp_X1_haveAny (G : GP) (post : Bool → HS → Prop) (y0 : HS) (p0 : Option Nat) (i1 : Int32) : Prop := ∃ I1 : Nat → HS → Int32 → Prop, (∃ n7, I1 n7 y0 (nI 0)) ∧ ∀ (n2 : Nat) (y3 : HS) (x6 : Int32), I1 n2 y3 x6 → ∃ a8, p0 = some a8 ∧ (∃ fs11, rd G y3 a8 (ob 18 fs11)) ∧ wp_J2_size G (fun x10 y9 => (x10 ≤ x6 → post false y9) ∧ (¬ x10 ≤ x6 → (∃ fs15, rd G y9 a8 (ob 18 fs15)) ∧ wp_J2_get G (fun r14 y13 => isOf G y13 r14 8 ∧ ∃ a16, r14 = some a16 ∧ (∃ fs19, rd G y13 a16 (ob 8 fs19)) ∧ wp_X10_has G (fun b18 y17 => (b18 = false → ∃ n21, n21 < n2 ∧ I1 n21 y17 (x6 + nI 1)) ∧ (b18 = true → post true y17)) y13 a16 i1) y9 a8 x6)) y3 a8
theorem hs_X1_haveAny : yX1_haveAny.cls ≠ "java/lang/invoke/MethodHandle" ∧ yX1_haveAny.cls ≠ "java/lang/invoke/VarHandle" ∧ (parseMethodDescriptor yX1_haveAny.desc).map (fun d => d.parameters.length) = some 2 := by decide +kernel
set_option maxHeartbeats 4000000 in
theorem met_X1_haveAny (l : Launch) (G : GP) (d : Nat) {post : Bool → HS → Prop} {y0 : HS} {p0 : Option Nat} {i1 : Int32} (hw : wp_X1_haveAny G post y0 p0 i1) : vx_Met l yX1_haveAny (ws_ yX1_haveAny cX1_haveAny 3 (some .boolean)) (rmB (d + 3) 0) (hPc G y0 [va_rf p0, .int (i1)]) (hQz G y0 post) (hX G y0 (fun _ _ _ => False)) 0 (20 * 0) (HA y0) := by
  unfold wp_X1_haveAny at hw
  refine hv_met (own := RX1) (by decide) rfl (by simp [lg_sl, va_rf_cat, int_cat, long_cat]) ?_
  intro p e s m args below meth c ls E hr hlocks hnm hE hK hI hl
  replace hl : lv_has ls 3 [(0, va_rf p0), (1, .int (i1))] := by simpa [lv_args, va_rf_cat, int_cat, long_cat] using hl
  refine lv_iconst (v := nI 0) E.1 E.2.1 dX1_haveAny_0 rfl ?_
  refine lv_istore_n (lv' := [(2, .int (nI 0)), (0, va_rf p0), (1, .int (i1))]) E.1 E.2.1 dX1_haveAny_1 rfl hl (Nat.le_of_ble_eq_true rfl) (by first | rfl | decide | (simp [va_rf_cat, int_cat, long_cat]; done) | (simp [va_rf_cat, int_cat, long_cat]; decide)) (fun ls hl => ?_)
  obtain ⟨I1, ⟨n7, hi23⟩, hb22⟩ := hw
  have L5 : ∀ (n2 : Nat) (y3 : HS) (x6 : Int32), I1 n2 y3 x6 → ∀ (H : Heap) (locs : List Loc) (ls : Array Slot), HI G y0 y3 s H locs → lv_has ls 3 [(0, va_rf p0), (1, .int (i1)), (2, .int (x6))] → W p l e (rmB (d + 3) 0) s m args below meth c H locs 0 (20 * 0) (vx_MQ below (hQz G y0 post) (hX G y0 (fun _ _ _ => False)) args s 0 (20 * 0) (HA y0)) (F0 m 2 ls []) := by
    intro n2
    induction n2 using Nat.strongRecOn with
    | _ n2 ih4 =>
      intro y3 x6 hw H locs ls hI hl
      replace hw := hb22 n2 y3 x6 hw
      refine lv_iload_n E.1 E.2.1 dX1_haveAny_2 rfl (lv_at hl 2 rfl) ?_
      refine hv_aload_n (r := p0) E.1 E.2.1 dX1_haveAny_3 rfl (lv_at hl 0 rfl) ?_
      obtain ⟨a8, ea8, hw⟩ := hw
      revert hl hw; subst ea8; intro hl hw
      obtain ⟨⟨fs11, hrv⟩, hw⟩ := hw
      have hq := hw
      clear hw
      refine hv_calli (u := 0) (B1 := 0) hI (vx_runV (As := []) (rest := [.int (x6)]) E (met_J2_size l G (d + 2) hq) (cwV 0 E.2.2.2.2 (lw_V q1453 q752 q753 q124 q754) rfl rfl rfl hd_J2_size (rm_ok (by omega) (by decide))) (hv_preV hK hI hrv rfl) rfl rfl hl.1 rfl (lv_room (by first | rfl | decide | (simp [va_rf_cat, int_cat, long_cat]; done) | (simp [va_rf_cat, int_cat, long_cat]; decide))) dX1_haveAny_4 (hv_fit (by first | exact (Nat.le_refl 0) | omega))) (fun _ _ _ _ _ h => h.elim) (fun x10 y9 H locs hw hI => ?_)
      refine lv_icmp_ge (tgt := 33) E.1 E.2.1 dX1_haveAny_7 (by decide) (fun c12 => ?_) (fun c12 => ?_)
      · replace hw := hw.1 (c12)
        refine lv_iconst (v := nI 0) E.1 E.2.1 dX1_haveAny_33 rfl ?_
        exact hv_iretz (b := false) E hr hlocks hI (Nat.le_refl 0) rfl hw dX1_haveAny_34
      · replace hw := hw.2 (c12)
        refine hv_aload_n (r := some a8) E.1 E.2.1 dX1_haveAny_10 rfl (lv_at hl 0 rfl) ?_
        refine lv_iload_n E.1 E.2.1 dX1_haveAny_11 rfl (lv_at hl 2 rfl) ?_
        obtain ⟨⟨fs15, hrv⟩, hw⟩ := hw
        have hq := hw
        clear hw
        refine hv_callq (u := 0) (B1 := 0) hI (vx_runV (As := [.int (x6)]) (rest := []) E (met_J2_get l G (d) hq) (cwV 1 E.2.2.2.2 (lw_V q1495 q785 q786 q124 q787) rfl rfl rfl hd_J2_get (rm_ok (by omega) (by decide))) (hv_preV hK hI hrv rfl) rfl rfl hl.1 rfl (lv_room (by first | rfl | decide | (simp [va_rf_cat, int_cat, long_cat]; done) | (simp [va_rf_cat, int_cat, long_cat]; decide))) dX1_haveAny_12 (hv_fit (by first | exact (Nat.le_refl 0) | omega))) (fun _ _ _ _ _ h => h.elim) (fun r14 y13 H locs hw hI => ?_)
        obtain ⟨hof, hw⟩ := hw
        refine hv_castC (cn := 8) E hK hI (by decide) q1645 hof dX1_haveAny_15 ?_
        refine lv_iload_n E.1 E.2.1 dX1_haveAny_18 rfl (lv_at hl 1 rfl) ?_
        obtain ⟨a16, ea16, hw⟩ := hw
        revert hl hw; subst ea16; intro hl hw
        obtain ⟨⟨fs19, hrv⟩, hw⟩ := hw
        have hq := hw
        clear hw
        refine hv_callz (u := 0) (B1 := 0) hI (vx_runV (As := [.int (i1)]) (rest := []) E (met_X10_has l G (d + 1) hq) (cwV 1 E.2.2.2.2 (lw_V q1646 q1319 q1320 q154 q1321) rfl rfl rfl hd_X10_has (rm_ok (by omega) (by decide))) (hv_preV hK hI hrv rfl) rfl rfl hl.1 rfl (lv_room (by first | rfl | decide | (simp [va_rf_cat, int_cat, long_cat]; done) | (simp [va_rf_cat, int_cat, long_cat]; decide))) dX1_haveAny_19 (hv_fit (by first | exact (Nat.le_refl 0) | omega))) (fun _ _ _ _ _ h => h.elim) (fun b18 y17 H locs hw hI => ?_)
        refine lv_if_eq (tgt := 27) E.1 E.2.1 dX1_haveAny_22 (by decide) (fun c20 => ?_) (fun c20 => ?_)
        · replace hw := hw.1 (bi_z c20)
          refine lv_iinc (k := 2) (v := x6 + nI 1) (lv' := [(2, .int (x6 + nI 1)), (0, va_rf (some a8)), (1, .int (i1))]) E.1 E.2.1 dX1_haveAny_27 hl rfl rfl (Nat.le_of_ble_eq_true rfl) (by first | rfl | decide | (simp [va_rf_cat, int_cat, long_cat]; done) | (simp [va_rf_cat, int_cat, long_cat]; decide)) (fun ls hl => ?_)
          refine lv_goto (tgt := 2) E.1 E.2.1 dX1_haveAny_30 (by decide) ?_
          obtain ⟨n21, hnn21, hin21⟩ := hw
          exact ih4 n21 hnn21 _ _ hin21 _ _ _ hI (lv_sub hl [1, 2, 0] rfl)
        · replace hw := hw.2 (bi_n c20)
          refine lv_iconst (v := nI 1) E.1 E.2.1 dX1_haveAny_25 rfl ?_
          exact hv_iretz (b := true) E hr hlocks hI (Nat.le_refl 0) rfl hw dX1_haveAny_26
  exact L5 n7 _ _ hi23 _ _ _ hI (lv_sub hl [1, 2, 0] rfl)
/-- CaseGrouper$Seen.chapterOf()I -/
def wp_X4_chapterOf (G : GP) (post : Int32 → HS → Prop) (y0 : HS) (a0 : Nat) : Prop := ∃ I1 : Nat → HS → Int32 → Prop, (∃ n7, I1 n7 y0 (nI 0)) ∧ ∀ (n2 : Nat) (y3 : HS) (x6 : Int32), I1 n2 y3 x6 → ∃ f8, fR y3 a0 2 0 f8 ∧ ∃ a9, f8 = some a9 ∧ ∃ f10, fR y3 a9 1 0 f10 ∧ ∃ a11, f10 = some a11 ∧ (∃ fs14, rd G y3 a11 (ob 18 fs14)) ∧ wp_J2_size G (fun x13 y12 => (x13 ≤ x6 → post ((-1)) y12) ∧ (¬ x13 ≤ x6 → ∃ f16, fR y12 a0 2 0 f16 ∧ ∃ a17, f16 = some a17 ∧ ∃ f18, fR y12 a17 1 0 f18 ∧ ∃ a19, f18 = some a19 ∧ (∃ fs22, rd G y12 a19 (ob 18 fs22)) ∧ wp_J2_get G (fun r21 y20 => isOf G y20 r21 7 ∧ ∃ a23, r21 = some a23 ∧ ∃ f24, fR y20 a23 7 1 f24 ∧ ∃ f25, fR y20 a0 2 1 f25 ∧ ∃ a26, f25 = some a26 ∧ ∃ f27, fI y20 a26 17 0 f27 ∧ wp_X1_haveAny G (fun b29 y28 => (b29 = false → ∃ n31, n31 < n2 ∧ I1 n31 y28 (x6 + nI 1)) ∧ (b29 = true → post x6 y28)) y20 f24 f27) y12 a19 x6)) y3 a11
theorem hs_X4_chapterOf : yX4_chapterOf.cls ≠ "java/lang/invoke/MethodHandle" ∧ yX4_chapterOf.cls ≠ "java/lang/invoke/VarHandle" ∧ (parseMethodDescriptor yX4_chapterOf.desc).map (fun d => d.parameters.length) = some 0 := by decide +kernel
theorem hd_X4_chapterOf : yX4_chapterOf.cls = RX4 ∧ yX4_chapterOf.cls ≠ "java/lang/invoke/MethodHandle" ∧ yX4_chapterOf.cls ≠ "java/lang/invoke/VarHandle" ∧ (parseMethodDescriptor yX4_chapterOf.desc).map (fun d => d.parameters.length) = some 0 := by decide +kernel
set_option maxHeartbeats 4000000 in
theorem met_X4_chapterOf (l : Launch) (G : GP) (d : Nat) {post : Int32 → HS → Prop} {y0 : HS} {a0 : Nat} (hw : wp_X4_chapterOf G post y0 a0) : vx_Met l yX4_chapterOf (ws_ yX4_chapterOf cX4_chapterOf 2 (some .int)) (rmB (d + 4) 0) (hPc G y0 [va_rf (some a0)]) (hQi G y0 post) (hX G y0 (fun _ _ _ => False)) 0 (20 * 0) (HA y0) := by
  unfold wp_X4_chapterOf at hw
  refine hv_met (own := RX4) (by decide) rfl (Nat.le_of_ble_eq_true rfl) ?_
  intro p e s m args below meth c ls E hr hlocks hnm hE hK hI hl
  replace hl : lv_has ls 2 [(0, va_rf (some a0))] := hl
  refine lv_iconst (v := nI 0) E.1 E.2.1 dX4_chapterOf_0 rfl ?_
  refine lv_istore_n (lv' := [(1, .int (nI 0)), (0, va_rf (some a0))]) E.1 E.2.1 dX4_chapterOf_1 rfl hl (Nat.le_of_ble_eq_true rfl) (by first | rfl | decide | (simp [va_rf_cat, int_cat, long_cat]; done) | (simp [va_rf_cat, int_cat, long_cat]; decide)) (fun ls hl => ?_)
  obtain ⟨I1, ⟨n7, hi33⟩, hb32⟩ := hw
  have L5 : ∀ (n2 : Nat) (y3 : HS) (x6 : Int32), I1 n2 y3 x6 → ∀ (H : Heap) (locs : List Loc) (ls : Array Slot), HI G y0 y3 s H locs → lv_has ls 2 [(0, va_rf (some a0)), (1, .int (x6))] → W p l e (rmB (d + 4) 0) s m args below meth c H locs 0 (20 * 0) (vx_MQ below (hQi G y0 post) (hX G y0 (fun _ _ _ => False)) args s 0 (20 * 0) (HA y0)) (F0 m 2 ls []) := by
    intro n2
    induction n2 using Nat.strongRecOn with
    | _ n2 ih4 =>
      intro y3 x6 hw H locs ls hI hl
      replace hw := hb32 n2 y3 x6 hw
      refine lv_iload_n E.1 E.2.1 dX4_chapterOf_2 rfl (lv_at hl 1 rfl) ?_
      refine hv_aload_n (r := some a0) E.1 E.2.1 dX4_chapterOf_3 rfl (lv_at hl 0 rfl) ?_
      obtain ⟨f8, ⟨fs, hfs, hfk⟩, hw⟩ := hw
      refine hv_get (v := va_rf f8) E hK hI ciX4 0 (Nat.le_of_ble_eq_true rfl) q1388 (fun _ h => h) (Or.inl hfs) hfk dX4_chapterOf_4 ?_
      obtain ⟨a9, ea9, hw⟩ := hw
      revert hl hw; subst ea9; intro hl hw
      obtain ⟨f10, ⟨fs, hfs, hfk⟩, hw⟩ := hw
      refine hv_getN (v := va_rf f10) E hK hI ciX2 0 (Nat.le_of_ble_eq_true rfl) q231 (fun _ h => h) (Or.inl hfs) hfk dX4_chapterOf_7 ?_
      obtain ⟨a11, ea11, hw⟩ := hw
      revert hl hw; subst ea11; intro hl hw
      obtain ⟨⟨fs14, hrv⟩, hw⟩ := hw
      have hq := hw
      clear hw
      refine hv_calli (u := 0) (B1 := 0) hI (vx_runV (As := []) (rest := [.int (x6)]) E (met_J2_size l G (d + 3) hq) (cwV 0 E.2.2.2.2 (lw_V q1328 q752 q753 q124 q754) rfl rfl rfl hd_J2_size (rm_ok (by omega) (by decide))) (hv_preV hK hI hrv rfl) rfl rfl hl.1 rfl (lv_room (by first | rfl | decide | (simp [va_rf_cat, int_cat, long_cat]; done) | (simp [va_rf_cat, int_cat, long_cat]; decide))) dX4_chapterOf_10 (hv_fit (by first | exact (Nat.le_refl 0) | omega))) (fun _ _ _ _ _ h => h.elim) (fun x13 y12 H locs hw hI => ?_)
      refine lv_icmp_ge (tgt := 54) E.1 E.2.1 dX4_chapterOf_13 (by decide) (fun c15 => ?_) (fun c15 => ?_)
      · replace hw := hw.1 (c15)
        refine lv_iconst (v := (-1)) E.1 E.2.1 dX4_chapterOf_54 rfl ?_
        exact hv_ireti E hr hlocks hI (Nat.le_refl 0) hw dX4_chapterOf_55
      · replace hw := hw.2 (c15)
        refine hv_aload_n (r := some a0) E.1 E.2.1 dX4_chapterOf_16 rfl (lv_at hl 0 rfl) ?_
        obtain ⟨f16, ⟨fs, hfs, hfk⟩, hw⟩ := hw
        refine hv_get (v := va_rf f16) E hK hI ciX4 0 (Nat.le_of_ble_eq_true rfl) q1388 (fun _ h => h) (Or.inl hfs) hfk dX4_chapterOf_17 ?_
        obtain ⟨a17, ea17, hw⟩ := hw
        revert hl hw; subst ea17; intro hl hw
        obtain ⟨f18, ⟨fs, hfs, hfk⟩, hw⟩ := hw
        refine hv_getN (v := va_rf f18) E hK hI ciX2 0 (Nat.le_of_ble_eq_true rfl) q231 (fun _ h => h) (Or.inl hfs) hfk dX4_chapterOf_20 ?_
        refine lv_iload_n E.1 E.2.1 dX4_chapterOf_23 rfl (lv_at hl 1 rfl) ?_
        obtain ⟨a19, ea19, hw⟩ := hw
        revert hl hw; subst ea19; intro hl hw
        obtain ⟨⟨fs22, hrv⟩, hw⟩ := hw
        have hq := hw
        clear hw
        refine hv_callq (u := 0) (B1 := 0) hI (vx_runV (As := [.int (x6)]) (rest := []) E (met_J2_get l G (d + 1) hq) (cwV 1 E.2.2.2.2 (lw_V q1329 q785 q786 q124 q787) rfl rfl rfl hd_J2_get (rm_ok (by omega) (by decide))) (hv_preV hK hI hrv rfl) rfl rfl hl.1 rfl (lv_room (by first | rfl | decide | (simp [va_rf_cat, int_cat, long_cat]; done) | (simp [va_rf_cat, int_cat, long_cat]; decide))) dX4_chapterOf_24 (hv_fit (by first | exact (Nat.le_refl 0) | omega))) (fun _ _ _ _ _ h => h.elim) (fun r21 y20 H locs hw hI => ?_)
        obtain ⟨hof, hw⟩ := hw
        refine hv_castC (cn := 7) E hK hI (by decide) q1651 hof dX4_chapterOf_27 ?_
        obtain ⟨a23, ea23, hw⟩ := hw
        revert hl hw; subst ea23; intro hl hw
        obtain ⟨f24, ⟨fs, hfs, hfk⟩, hw⟩ := hw
        refine hv_getN (v := va_rf f24) E hK hI ciX9 1 (Nat.le_of_ble_eq_true rfl) q809 (fun _ h => h) (Or.inl hfs) hfk dX4_chapterOf_30 ?_
        refine hv_aload_n (r := some a0) E.1 E.2.1 dX4_chapterOf_33 rfl (lv_at hl 0 rfl) ?_
        obtain ⟨f25, ⟨fs, hfs, hfk⟩, hw⟩ := hw
        refine hv_get (v := va_rf f25) E hK hI ciX4 1 (Nat.le_of_ble_eq_true rfl) q1389 (fun _ h => h) (Or.inl hfs) hfk dX4_chapterOf_34 ?_
        obtain ⟨a26, ea26, hw⟩ := hw
        revert hl hw; subst ea26; intro hl hw
        obtain ⟨f27, ⟨fs, hfs, hfk⟩, hw⟩ := hw
        refine hv_getN (v := .int f27) E hK hI ciX19 0 (Nat.le_of_ble_eq_true rfl) q1463 (fun _ h => h) (Or.inl hfs) hfk dX4_chapterOf_37 ?_
        have hq := hw
        clear hw
        refine hv_callz (u := 0) (B1 := 0) hI (vx_runSN (As := [va_rf f24, .int (f27)]) (rest := []) E (met_X1_haveAny l G (d) hq) ⟨va_cnB 2 E.2.2.2.2 (lw_meth q1644) rfl rfl rfl (hK.2.2.2.2.1 _ q1642 rfl) (E.2.2.2.2 _ q121) hs_X1_haveAny (rm_ok (by omega) (by decide)), E.2.2.2.2 _ q1643, trivial⟩ (hv_preS hK hI) rfl rfl hl.1 rfl (lv_room (by first | rfl | decide | (simp [va_rf_cat, int_cat, long_cat]; done) | (simp [va_rf_cat, int_cat, long_cat]; decide))) dX4_chapterOf_40 (hv_fit (by first | exact (Nat.le_refl 0) | omega))) (fun _ _ _ _ _ h => h.elim) (fun b29 y28 H locs hw hI => ?_)
        refine lv_if_eq (tgt := 48) E.1 E.2.1 dX4_chapterOf_43 (by decide) (fun c30 => ?_) (fun c30 => ?_)
        · replace hw := hw.1 (bi_z c30)
          refine lv_iinc (k := 1) (v := x6 + nI 1) (lv' := [(1, .int (x6 + nI 1)), (0, va_rf (some a0))]) E.1 E.2.1 dX4_chapterOf_48 hl rfl rfl (Nat.le_of_ble_eq_true rfl) (by first | rfl | decide | (simp [va_rf_cat, int_cat, long_cat]; done) | (simp [va_rf_cat, int_cat, long_cat]; decide)) (fun ls hl => ?_)
          refine lv_goto (tgt := 2) E.1 E.2.1 dX4_chapterOf_51 (by decide) ?_
          obtain ⟨n31, hnn31, hin31⟩ := hw
          exact ih4 n31 hnn31 _ _ hin31 _ _ _ hI (lv_sub hl [1, 0] rfl)
        · replace hw := hw.2 (bi_n c30)
          refine lv_iload_n E.1 E.2.1 dX4_chapterOf_46 rfl (lv_at hl 1 rfl) ?_
          exact hv_ireti E hr hlocks hI (Nat.le_refl 0) hw dX4_chapterOf_47
  exact L5 n7 _ _ hi33 _ _ _ hI (lv_sub hl [1, 0] rfl)
/-- CaseGrouper$Seen.counts(II)Z -/
def wp_X4_counts (G : GP) (post : Bool → HS → Prop) (y0 : HS) (a0 : Nat) (i1 : Int32) (i2 : Int32) : Prop := (0 ≤ i2 → ∃ J2 : HS → (Option Nat) → Bool → Prop, (∀ (y4 : HS) (r5 : Option Nat) (b6 : Bool), J2 y4 r5 b6 → ∃ I7 : Nat → HS → Bool → Int32 → Prop, (∃ n14, I7 n14 y4 b6 (nI 0)) ∧ ∀ (n8 : Nat) (y9 : HS) (b12 : Bool) (x13 : Int32), I7 n8 y9 b12 x13 → ∃ f15, fR y9 a0 2 1 f15 ∧ ∃ a16, f15 = some a16 ∧ ∃ f17, fR y9 a16 17 3 f17 ∧ ∃ a18, f17 = some a18 ∧ (∃ fs21, rd G y9 a18 (ob 18 fs21)) ∧ wp_J2_size G (fun x20 y19 => (x20 ≤ x13 → post b12 y19) ∧ (¬ x20 ≤ x13 → (b12 = false → ∃ n24, n24 < n8 ∧ I7 n24 y19 false (x13 + nI 1)) ∧ (b12 = true → ∃ f25, fR y19 a0 2 1 f25 ∧ ∃ a26, f25 = some a26 ∧ ∃ f27, fR y19 a26 17 3 f27 ∧ ∃ a28, f27 = some a28 ∧ (∃ fs31, rd G y19 a28 (ob 18 fs31)) ∧ wp_J2_get G (fun r30 y29 => isOf G y29 r30 21 ∧ ∃ a32, r30 = some a32 ∧ (∃ fs35, rd G y29 a32 (ob 21 fs35)) ∧ wp_J13_intValue G (fun x34 y33 => (x34 = i1 → ∃ n37, n37 < n8 ∧ I7 n37 y33 true (x13 + nI 1)) ∧ (¬ x34 = i1 → ∃ f38, fR y33 a0 2 1 f38 ∧ ∃ a39, f38 = some a39 ∧ ∃ f40, fR y33 a39 17 3 f40 ∧ ∃ a41, f40 = some a41 ∧ (∃ fs44, rd G y33 a41 (ob 18 fs44)) ∧ wp_J2_get G (fun r43 y42 => isOf G y42 r43 21 ∧ ∃ a45, r43 = some a45 ∧ (∃ fs48, rd G y42 a45 (ob 21 fs48)) ∧ wp_J13_intValue G (fun x47 y46 => wp_X1_haveAny G (fun b50 y49 => (b50 = true → ∃ n52, n52 < n8 ∧ I7 n52 y49 false (x13 + nI 1)) ∧ (b50 = false → ∃ n53, n53 < n8 ∧ I7 n53 y49 true (x13 + nI 1))) y46 r5 x47) y42 a45) y33 a41 x13)) y29 a32) y19 a28 x13))) y9 a18) ∧ (∃ f56, fR y0 a0 2 0 f56 ∧ ∃ a57, f56 = some a57 ∧ ∃ f58, fR y0 a57 1 2 f58 ∧ ∃ a59, f58 = some a59 ∧ (∃ fs62, rd G y0 a59 (ob 18 fs62)) ∧ wp_J2_get G (fun r61 y60 => isOf G y60 r61 10 ∧ ∃ a63, r61 = some a63 ∧ ∃ f64, fR y60 a63 10 2 f64 ∧ ∃ f65, fR y60 a0 2 1 f65 ∧ ∃ a66, f65 = some a66 ∧ ∃ f67, fI y60 a66 17 0 f67 ∧ wp_X1_haveAny G (fun b69 y68 => (b69 = true → J2 y68 f64 false) ∧ (b69 = false → J2 y68 f64 true)) y60 f64 f67) y0 a59 i2)) ∧ (¬ 0 ≤ i2 → post false y0)
theorem hs_X4_counts : yX4_counts.cls ≠ "java/lang/invoke/MethodHandle" ∧ yX4_counts.cls ≠ "java/lang/invoke/VarHandle" ∧ (parseMethodDescriptor yX4_counts.desc).map (fun d => d.parameters.length) = some 2 := by decide +kernel
theorem hd_X4_counts : yX4_counts.cls = RX4 ∧ yX4_counts.cls ≠ "java/lang/invoke/MethodHandle" ∧ yX4_counts.cls ≠ "java/lang/invoke/VarHandle" ∧ (parseMethodDescriptor yX4_counts.desc).map (fun d => d.parameters.length) = some 2 := by decide +kernel
set_option maxHeartbeats 4000000 in
theorem met_X4_counts (l : Launch) (G : GP) (d : Nat) {post : Bool → HS → Prop} {y0 : HS} {a0 : Nat} {i1 : Int32} {i2 : Int32} (hw : wp_X4_counts G post y0 a0 i1 i2) : vx_Met l yX4_counts (ws_ yX4_counts cX4_counts 6 (some .boolean)) (rmB (d + 4) 0) (hPc G y0 [va_rf (some a0), .int (i1), .int (i2)]) (hQz G y0 post) (hX G y0 (fun _ _ _ => False)) 0 (20 * 0) (HA y0) := by
  unfold wp_X4_counts at hw
  refine hv_met (own := RX4) (by decide) rfl (Nat.le_of_ble_eq_true rfl) ?_
  intro p e s m args below meth c ls E hr hlocks hnm hE hK hI hl
  replace hl : lv_has ls 6 [(0, va_rf (some a0)), (1, .int (i1)), (2, .int (i2))] := hl
  refine lv_iload_n E.1 E.2.1 dX4_counts_0 rfl (lv_at hl 2 rfl) ?_
  refine lv_if_ge (tgt := 6) E.1 E.2.1 dX4_counts_1 (by decide) (fun c1 => ?_) (fun c1 => ?_)
  · replace hw := hw.1 (c1)
    obtain ⟨J2, hj71, hw⟩ := hw
    have jh3 : ∀ (y4 : HS) (r5 : Option Nat) (b6 : Bool), J2 y4 r5 b6 → ∀ (H : Heap) (locs : List Loc) (ls : Array Slot), HI G y0 y4 s H locs → lv_has ls 6 [(0, va_rf (some a0)), (1, .int (i1)), (3, va_rf r5)] → W p l e (rmB (d + 4) 0) s m args below meth c H locs 0 (20 * 0) (vx_MQ below (hQz G y0 post) (hX G y0 (fun _ _ _ => False)) args s 0 (20 * 0) (HA y0)) (F0 m 43 ls [.int (bi b6)]) := by
      intro y4 r5 b6 hw H locs ls hI hl
      replace hw := hj71 y4 r5 b6 hw
      refine lv_istore (lv' := [(4, .int (bi b6)), (0, va_rf (some a0)), (1, .int (i1)), (3, va_rf r5)]) E.1 E.2.1 dX4_counts_43 hl (Nat.le_of_ble_eq_true rfl) (by first | rfl | decide | (simp [va_rf_cat, int_cat, long_cat]; done) | (simp [va_rf_cat, int_cat, long_cat]; decide)) (fun ls hl => ?_)
      refine lv_iconst (v := nI 0) E.1 E.2.1 dX4_counts_45 rfl ?_
      refine lv_istore (lv' := [(5, .int (nI 0)), (4, .int (bi b6)), (0, va_rf (some a0)), (1, .int (i1)), (3, va_rf r5)]) E.1 E.2.1 dX4_counts_46 hl (Nat.le_of_ble_eq_true rfl) (by first | rfl | decide | (simp [va_rf_cat, int_cat, long_cat]; done) | (simp [va_rf_cat, int_cat, long_cat]; decide)) (fun ls hl => ?_)
      obtain ⟨I7, ⟨n14, hi55⟩, hb54⟩ := hw
      have L11 : ∀ (n8 : Nat) (y9 : HS) (b12 : Bool) (x13 : Int32), I7 n8 y9 b12 x13 → ∀ (H : Heap) (locs : List Loc) (ls : Array Slot), HI G y0 y9 s H locs → lv_has ls 6 [(0, va_rf (some a0)), (1, .int (i1)), (3, va_rf r5), (4, .int (bi b12)), (5, .int (x13))] → W p l e (rmB (d + 4) 0) s m args below meth c H locs 0 (20 * 0) (vx_MQ below (hQz G y0 post) (hX G y0 (fun _ _ _ => False)) args s 0 (20 * 0) (HA y0)) (F0 m 48 ls []) := by
        intro n8
        induction n8 using Nat.strongRecOn with
        | _ n8 ih10 =>
          intro y9 b12 x13 hw H locs ls hI hl
          replace hw := hb54 n8 y9 b12 x13 hw
          refine lv_iload E.1 E.2.1 dX4_counts_48 (lv_at hl 4 rfl) ?_
          refine hv_aload_n (r := some a0) E.1 E.2.1 dX4_counts_50 rfl (lv_at hl 0 rfl) ?_
          obtain ⟨f15, ⟨fs, hfs, hfk⟩, hw⟩ := hw
          refine hv_get (v := va_rf f15) E hK hI ciX4 1 (Nat.le_of_ble_eq_true rfl) q1389 (fun _ h => h) (Or.inl hfs) hfk dX4_counts_51 ?_
          obtain ⟨a16, ea16, hw⟩ := hw
          revert hl hw; subst ea16; intro hl hw
          obtain ⟨f17, ⟨fs, hfs, hfk⟩, hw⟩ := hw
          refine hv_getN (v := va_rf f17) E hK hI ciX19 3 (Nat.le_of_ble_eq_true rfl) q1470 (fun _ h => h) (Or.inl hfs) hfk dX4_counts_54 ?_
          obtain ⟨a18, ea18, hw⟩ := hw
          revert hl hw; subst ea18; intro hl hw
          obtain ⟨⟨fs21, hrv⟩, hw⟩ := hw
          have hq := hw
          clear hw
          refine hv_calli (u := 0) (B1 := 0) hI (vx_runV (As := []) (rest := [.int (x13)]) E (met_J2_size l G (d + 3) hq) (cwV 0 E.2.2.2.2 (lw_V q1328 q752 q753 q124 q754) rfl rfl rfl hd_J2_size (rm_ok (by omega) (by decide))) (hv_preV hK hI hrv rfl) rfl rfl hl.1 rfl (lv_room (by first | rfl | decide | (simp [va_rf_cat, int_cat, long_cat]; done) | (simp [va_rf_cat, int_cat, long_cat]; decide))) dX4_counts_57 (hv_fit (by first | exact (Nat.le_refl 0) | omega))) (fun _ _ _ _ _ h => h.elim) (fun x20 y19 H locs hw hI => ?_)
          refine lv_icmp_ge (tgt := 128) E.1 E.2.1 dX4_counts_60 (by decide) (fun c22 => ?_) (fun c22 => ?_)
          · replace hw := hw.1 (c22)
            refine lv_iload E.1 E.2.1 dX4_counts_128 (lv_at hl 3 rfl) ?_
            exact hv_iretz (b := b12) E hr hlocks hI (Nat.le_refl 0) rfl hw dX4_counts_130
          · replace hw := hw.2 (c22)
            refine lv_iload E.1 E.2.1 dX4_counts_63 (lv_at hl 3 rfl) ?_
            refine lv_if_eq (tgt := 119) E.1 E.2.1 dX4_counts_65 (by decide) (fun c23 => ?_) (fun c23 => ?_)
            · replace hw := hw.1 (bi_z c23)
              refine lv_iconst (v := nI 0) E.1 E.2.1 dX4_counts_119 rfl ?_
              refine lv_istore (lv' := [(4, .int (nI 0)), (0, va_rf (some a0)), (1, .int (i1)), (3, va_rf r5), (5, .int (x13))]) E.1 E.2.1 dX4_counts_120 hl (Nat.le_of_ble_eq_true rfl) (by first | rfl | decide | (simp [va_rf_cat, int_cat, long_cat]; done) | (simp [va_rf_cat, int_cat, long_cat]; decide)) (fun ls hl => ?_)
              refine lv_iinc (k := 4) (v := x13 + nI 1) (lv' := [(5, .int (x13 + nI 1)), (4, .int (nI 0)), (0, va_rf (some a0)), (1, .int (i1)), (3, va_rf r5)]) E.1 E.2.1 dX4_counts_122 hl rfl rfl (Nat.le_of_ble_eq_true rfl) (by first | rfl | decide | (simp [va_rf_cat, int_cat, long_cat]; done) | (simp [va_rf_cat, int_cat, long_cat]; decide)) (fun ls hl => ?_)
              refine lv_goto (tgt := 48) E.1 E.2.1 dX4_counts_125 (by decide) ?_
              obtain ⟨n24, hnn24, hin24⟩ := hw
              exact ih10 n24 hnn24 _ _ _ hin24 _ _ _ hI (lv_sub hl [2, 3, 4, 1, 0] rfl)
            · replace hw := hw.2 (bi_n c23)
              refine hv_aload_n (r := some a0) E.1 E.2.1 dX4_counts_68 rfl (lv_at hl 0 rfl) ?_
              obtain ⟨f25, ⟨fs, hfs, hfk⟩, hw⟩ := hw
              refine hv_get (v := va_rf f25) E hK hI ciX4 1 (Nat.le_of_ble_eq_true rfl) q1389 (fun _ h => h) (Or.inl hfs) hfk dX4_counts_69 ?_
              obtain ⟨a26, ea26, hw⟩ := hw
              revert hl hw; subst ea26; intro hl hw
              obtain ⟨f27, ⟨fs, hfs, hfk⟩, hw⟩ := hw
              refine hv_getN (v := va_rf f27) E hK hI ciX19 3 (Nat.le_of_ble_eq_true rfl) q1470 (fun _ h => h) (Or.inl hfs) hfk dX4_counts_72 ?_
              refine lv_iload E.1 E.2.1 dX4_counts_75 (lv_at hl 4 rfl) ?_
              obtain ⟨a28, ea28, hw⟩ := hw
              revert hl hw; subst ea28; intro hl hw
              obtain ⟨⟨fs31, hrv⟩, hw⟩ := hw
              have hq := hw
              clear hw
              refine hv_callq (u := 0) (B1 := 0) hI (vx_runV (As := [.int (x13)]) (rest := []) E (met_J2_get l G (d + 1) hq) (cwV 1 E.2.2.2.2 (lw_V q1329 q785 q786 q124 q787) rfl rfl rfl hd_J2_get (rm_ok (by omega) (by decide))) (hv_preV hK hI hrv rfl) rfl rfl hl.1 rfl (lv_room (by first | rfl | decide | (simp [va_rf_cat, int_cat, long_cat]; done) | (simp [va_rf_cat, int_cat, long_cat]; decide))) dX4_counts_77 (hv_fit (by first | exact (Nat.le_refl 0) | omega))) (fun _ _ _ _ _ h => h.elim) (fun r30 y29 H locs hw hI => ?_)
              obtain ⟨hof, hw⟩ := hw
              refine hv_castC (cn := 21) E hK hI (by decide) q1330 hof dX4_counts_80 ?_
              obtain ⟨a32, ea32, hw⟩ := hw
              revert hl hw; subst ea32; intro hl hw
              obtain ⟨⟨fs35, hrv⟩, hw⟩ := hw
              have hq := hw
              clear hw
              refine hv_calli (u := 0) (B1 := 0) hI (vx_runV (As := []) (rest := []) E (met_J13_intValue l G (d + 3) hq) (cwV 0 E.2.2.2.2 (lw_V q1331 q993 q994 q141 q995) rfl rfl rfl hd_J13_intValue (rm_ok (by omega) (by decide))) (hv_preV hK hI hrv rfl) rfl rfl hl.1 rfl (lv_room (by first | rfl | decide | (simp [va_rf_cat, int_cat, long_cat]; done) | (simp [va_rf_cat, int_cat, long_cat]; decide))) dX4_counts_83 (hv_fit (by first | exact (Nat.le_refl 0) | omega))) (fun _ _ _ _ _ h => h.elim) (fun x34 y33 H locs hw hI => ?_)
              refine lv_iload_n E.1 E.2.1 dX4_counts_86 rfl (lv_at hl 1 rfl) ?_
              refine lv_icmp_eq (tgt := 115) E.1 E.2.1 dX4_counts_87 (by decide) (fun c36 => ?_) (fun c36 => ?_)
              · replace hw := hw.1 (c36)
                refine lv_iconst (v := nI 1) E.1 E.2.1 dX4_counts_115 rfl ?_
                refine lv_goto (tgt := 120) E.1 E.2.1 dX4_counts_116 (by decide) ?_
                refine lv_istore (lv' := [(4, .int (nI 1)), (0, va_rf (some a0)), (1, .int (i1)), (3, va_rf r5), (5, .int (x13))]) E.1 E.2.1 dX4_counts_120 hl (Nat.le_of_ble_eq_true rfl) (by first | rfl | decide | (simp [va_rf_cat, int_cat, long_cat]; done) | (simp [va_rf_cat, int_cat, long_cat]; decide)) (fun ls hl => ?_)
                refine lv_iinc (k := 4) (v := x13 + nI 1) (lv' := [(5, .int (x13 + nI 1)), (4, .int (nI 1)), (0, va_rf (some a0)), (1, .int (i1)), (3, va_rf r5)]) E.1 E.2.1 dX4_counts_122 hl rfl rfl (Nat.le_of_ble_eq_true rfl) (by first | rfl | decide | (simp [va_rf_cat, int_cat, long_cat]; done) | (simp [va_rf_cat, int_cat, long_cat]; decide)) (fun ls hl => ?_)
                refine lv_goto (tgt := 48) E.1 E.2.1 dX4_counts_125 (by decide) ?_
                obtain ⟨n37, hnn37, hin37⟩ := hw
                exact ih10 n37 hnn37 _ _ _ hin37 _ _ _ hI (lv_sub hl [2, 3, 4, 1, 0] rfl)
              · replace hw := hw.2 (c36)
                refine hv_aload_n (r := r5) E.1 E.2.1 dX4_counts_90 rfl (lv_at hl 2 rfl) ?_
                refine hv_aload_n (r := some a0) E.1 E.2.1 dX4_counts_91 rfl (lv_at hl 0 rfl) ?_
                obtain ⟨f38, ⟨fs, hfs, hfk⟩, hw⟩ := hw
                refine hv_get (v := va_rf f38) E hK hI ciX4 1 (Nat.le_of_ble_eq_true rfl) q1389 (fun _ h => h) (Or.inl hfs) hfk dX4_counts_92 ?_
                obtain ⟨a39, ea39, hw⟩ := hw
                revert hl hw; subst ea39; intro hl hw
                obtain ⟨f40, ⟨fs, hfs, hfk⟩, hw⟩ := hw
                refine hv_getN (v := va_rf f40) E hK hI ciX19 3 (Nat.le_of_ble_eq_true rfl) q1470 (fun _ h => h) (Or.inl hfs) hfk dX4_counts_95 ?_
                refine lv_iload E.1 E.2.1 dX4_counts_98 (lv_at hl 4 rfl) ?_
                obtain ⟨a41, ea41, hw⟩ := hw
                revert hl hw; subst ea41; intro hl hw
                obtain ⟨⟨fs44, hrv⟩, hw⟩ := hw
                have hq := hw
                clear hw
                refine hv_callq (u := 0) (B1 := 0) hI (vx_runV (As := [.int (x13)]) (rest := [va_rf r5]) E (met_J2_get l G (d + 1) hq) (cwV 1 E.2.2.2.2 (lw_V q1329 q785 q786 q124 q787) rfl rfl rfl hd_J2_get (rm_ok (by omega) (by decide))) (hv_preV hK hI hrv rfl) rfl rfl hl.1 rfl (lv_room (by first | rfl | decide | (simp [va_rf_cat, int_cat, long_cat]; done) | (simp [va_rf_cat, int_cat, long_cat]; decide))) dX4_counts_100 (hv_fit (by first | exact (Nat.le_refl 0) | omega))) (fun _ _ _ _ _ h => h.elim) (fun r43 y42 H locs hw hI => ?_)
                obtain ⟨hof, hw⟩ := hw
                refine hv_castC (cn := 21) E hK hI (by decide) q1330 hof dX4_counts_103 ?_
                obtain ⟨a45, ea45, hw⟩ := hw
                revert hl hw; subst ea45; intro hl hw
                obtain ⟨⟨fs48, hrv⟩, hw⟩ := hw
                have hq := hw
                clear hw
                refine hv_calli (u := 0) (B1 := 0) hI (vx_runV (As := []) (rest := [va_rf r5]) E (met_J13_intValue l G (d + 3) hq) (cwV 0 E.2.2.2.2 (lw_V q1331 q993 q994 q141 q995) rfl rfl rfl hd_J13_intValue (rm_ok (by omega) (by decide))) (hv_preV hK hI hrv rfl) rfl rfl hl.1 rfl (lv_room (by first | rfl | decide | (simp [va_rf_cat, int_cat, long_cat]; done) | (simp [va_rf_cat, int_cat, long_cat]; decide))) dX4_counts_106 (hv_fit (by first | exact (Nat.le_refl 0) | omega))) (fun _ _ _ _ _ h => h.elim) (fun x47 y46 H locs hw hI => ?_)
                have hq := hw
                clear hw
                refine hv_callz (u := 0) (B1 := 0) hI (vx_runSN (As := [va_rf r5, .int (x47)]) (rest := []) E (met_X1_haveAny l G (d) hq) ⟨va_cnB 2 E.2.2.2.2 (lw_meth q1644) rfl rfl rfl (hK.2.2.2.2.1 _ q1642 rfl) (E.2.2.2.2 _ q121) hs_X1_haveAny (rm_ok (by omega) (by decide)), E.2.2.2.2 _ q1643, trivial⟩ (hv_preS hK hI) rfl rfl hl.1 rfl (lv_room (by first | rfl | decide | (simp [va_rf_cat, int_cat, long_cat]; done) | (simp [va_rf_cat, int_cat, long_cat]; decide))) dX4_counts_109 (hv_fit (by first | exact (Nat.le_refl 0) | omega))) (fun _ _ _ _ _ h => h.elim) (fun b50 y49 H locs hw hI => ?_)
                refine lv_if_ne (tgt := 119) E.1 E.2.1 dX4_counts_112 (by decide) (fun c51 => ?_) (fun c51 => ?_)
                · replace hw := hw.1 (bi_n c51)
                  refine lv_iconst (v := nI 0) E.1 E.2.1 dX4_counts_119 rfl ?_
                  refine lv_istore (lv' := [(4, .int (nI 0)), (0, va_rf (some a0)), (1, .int (i1)), (3, va_rf r5), (5, .int (x13))]) E.1 E.2.1 dX4_counts_120 hl (Nat.le_of_ble_eq_true rfl) (by first | rfl | decide | (simp [va_rf_cat, int_cat, long_cat]; done) | (simp [va_rf_cat, int_cat, long_cat]; decide)) (fun ls hl => ?_)
                  refine lv_iinc (k := 4) (v := x13 + nI 1) (lv' := [(5, .int (x13 + nI 1)), (4, .int (nI 0)), (0, va_rf (some a0)), (1, .int (i1)), (3, va_rf r5)]) E.1 E.2.1 dX4_counts_122 hl rfl rfl (Nat.le_of_ble_eq_true rfl) (by first | rfl | decide | (simp [va_rf_cat, int_cat, long_cat]; done) | (simp [va_rf_cat, int_cat, long_cat]; decide)) (fun ls hl => ?_)
                  refine lv_goto (tgt := 48) E.1 E.2.1 dX4_counts_125 (by decide) ?_
                  obtain ⟨n52, hnn52, hin52⟩ := hw
                  exact ih10 n52 hnn52 _ _ _ hin52 _ _ _ hI (lv_sub hl [2, 3, 4, 1, 0] rfl)
                · replace hw := hw.2 (bi_z c51)
                  refine lv_iconst (v := nI 1) E.1 E.2.1 dX4_counts_115 rfl ?_
                  refine lv_goto (tgt := 120) E.1 E.2.1 dX4_counts_116 (by decide) ?_
                  refine lv_istore (lv' := [(4, .int (nI 1)), (0, va_rf (some a0)), (1, .int (i1)), (3, va_rf r5), (5, .int (x13))]) E.1 E.2.1 dX4_counts_120 hl (Nat.le_of_ble_eq_true rfl) (by first | rfl | decide | (simp [va_rf_cat, int_cat, long_cat]; done) | (simp [va_rf_cat, int_cat, long_cat]; decide)) (fun ls hl => ?_)
                  refine lv_iinc (k := 4) (v := x13 + nI 1) (lv' := [(5, .int (x13 + nI 1)), (4, .int (nI 1)), (0, va_rf (some a0)), (1, .int (i1)), (3, va_rf r5)]) E.1 E.2.1 dX4_counts_122 hl rfl rfl (Nat.le_of_ble_eq_true rfl) (by first | rfl | decide | (simp [va_rf_cat, int_cat, long_cat]; done) | (simp [va_rf_cat, int_cat, long_cat]; decide)) (fun ls hl => ?_)
                  refine lv_goto (tgt := 48) E.1 E.2.1 dX4_counts_125 (by decide) ?_
                  obtain ⟨n53, hnn53, hin53⟩ := hw
                  exact ih10 n53 hnn53 _ _ _ hin53 _ _ _ hI (lv_sub hl [2, 3, 4, 1, 0] rfl)
      exact L11 n14 _ _ _ hi55 _ _ _ hI (lv_sub hl [2, 3, 4, 1, 0] rfl)
    refine hv_aload_n (r := some a0) E.1 E.2.1 dX4_counts_6 rfl (lv_at hl 0 rfl) ?_
    obtain ⟨f56, ⟨fs, hfs, hfk⟩, hw⟩ := hw
    refine hv_get (v := va_rf f56) E hK hI ciX4 0 (Nat.le_of_ble_eq_true rfl) q1388 (fun _ h => h) (Or.inl hfs) hfk dX4_counts_7 ?_
    obtain ⟨a57, ea57, hw⟩ := hw
    revert hl hw; subst ea57; intro hl hw
    obtain ⟨f58, ⟨fs, hfs, hfk⟩, hw⟩ := hw
    refine hv_getN (v := va_rf f58) E hK hI ciX2 2 (Nat.le_of_ble_eq_true rfl) q239 (fun _ h => h) (Or.inl hfs) hfk dX4_counts_10 ?_
    refine lv_iload_n E.1 E.2.1 dX4_counts_13 rfl (lv_at hl 2 rfl) ?_
    obtain ⟨a59, ea59, hw⟩ := hw
    revert hl hw; subst ea59; intro hl hw
    obtain ⟨⟨fs62, hrv⟩, hw⟩ := hw
    have hq := hw
    clear hw
    refine hv_callq (u := 0) (B1 := 0) hI (vx_runV (As := [.int (i2)]) (rest := []) E (met_J2_get l G (d + 1) hq) (cwV 1 E.2.2.2.2 (lw_V q1329 q785 q786 q124 q787) rfl rfl rfl hd_J2_get (rm_ok (by omega) (by decide))) (hv_preV hK hI hrv rfl) rfl rfl hl.1 rfl (lv_room (by first | rfl | decide | (simp [va_rf_cat, int_cat, long_cat]; done) | (simp [va_rf_cat, int_cat, long_cat]; decide))) dX4_counts_14 (hv_fit (by first | exact (Nat.le_refl 0) | omega))) (fun _ _ _ _ _ h => h.elim) (fun r61 y60 H locs hw hI => ?_)
    obtain ⟨hof, hw⟩ := hw
    refine hv_castC (cn := 10) E hK hI (by decide) q1637 hof dX4_counts_17 ?_
    obtain ⟨a63, ea63, hw⟩ := hw
    revert hl hw; subst ea63; intro hl hw
    obtain ⟨f64, ⟨fs, hfs, hfk⟩, hw⟩ := hw
    refine hv_getN (v := va_rf f64) E hK hI ciX12 2 (Nat.le_of_ble_eq_true rfl) q1026 (fun _ h => h) (Or.inl hfs) hfk dX4_counts_20 ?_
    refine hv_astore_n (r := f64) (lv' := [(3, va_rf f64), (0, va_rf (some a0)), (1, .int (i1)), (2, .int (i2))]) E.1 E.2.1 dX4_counts_23 rfl hl (Nat.le_of_ble_eq_true rfl) (by first | rfl | decide | (simp [va_rf_cat, int_cat, long_cat]; done) | (simp [va_rf_cat, int_cat, long_cat]; decide)) (fun ls hl => ?_)
    refine hv_aload_n (r := f64) E.1 E.2.1 dX4_counts_24 rfl (lv_at hl 0 rfl) ?_
    refine hv_aload_n (r := some a0) E.1 E.2.1 dX4_counts_25 rfl (lv_at hl 1 rfl) ?_
    obtain ⟨f65, ⟨fs, hfs, hfk⟩, hw⟩ := hw
    refine hv_get (v := va_rf f65) E hK hI ciX4 1 (Nat.le_of_ble_eq_true rfl) q1389 (fun _ h => h) (Or.inl hfs) hfk dX4_counts_26 ?_
    obtain ⟨a66, ea66, hw⟩ := hw
    revert hl hw; subst ea66; intro hl hw
    obtain ⟨f67, ⟨fs, hfs, hfk⟩, hw⟩ := hw
    refine hv_getN (v := .int f67) E hK hI ciX19 0 (Nat.le_of_ble_eq_true rfl) q1463 (fun _ h => h) (Or.inl hfs) hfk dX4_counts_29 ?_
    have hq := hw
    clear hw
    refine hv_callz (u := 0) (B1 := 0) hI (vx_runSN (As := [va_rf f64, .int (f67)]) (rest := []) E (met_X1_haveAny l G (d) hq) ⟨va_cnB 2 E.2.2.2.2 (lw_meth q1644) rfl rfl rfl (hK.2.2.2.2.1 _ q1642 rfl) (E.2.2.2.2 _ q121) hs_X1_haveAny (rm_ok (by omega) (by decide)), E.2.2.2.2 _ q1643, trivial⟩ (hv_preS hK hI) rfl rfl hl.1 rfl (lv_room (by first | rfl | decide | (simp [va_rf_cat, int_cat, long_cat]; done) | (simp [va_rf_cat, int_cat, long_cat]; decide))) dX4_counts_32 (hv_fit (by first | exact (Nat.le_refl 0) | omega))) (fun _ _ _ _ _ h => h.elim) (fun b69 y68 H locs hw hI => ?_)
    refine lv_if_ne (tgt := 42) E.1 E.2.1 dX4_counts_35 (by decide) (fun c70 => ?_) (fun c70 => ?_)
    · replace hw := hw.1 (bi_n c70)
      refine lv_iconst (v := nI 0) E.1 E.2.1 dX4_counts_42 rfl ?_
      exact jh3 _ _ _ hw _ _ _ hI (lv_sub hl [1, 2, 0] rfl)
    · replace hw := hw.2 (bi_z c70)
      refine lv_iconst (v := nI 1) E.1 E.2.1 dX4_counts_38 rfl ?_
      refine lv_goto (tgt := 43) E.1 E.2.1 dX4_counts_39 (by decide) ?_
      exact jh3 _ _ _ hw _ _ _ hI (lv_sub hl [1, 2, 0] rfl)
  · replace hw := hw.2 (c1)
    refine lv_iconst (v := nI 0) E.1 E.2.1 dX4_counts_4 rfl ?_
    exact hv_iretz (b := false) E hr hlocks hI (Nat.le_refl 0) rfl hw dX4_counts_5
/-- CaseGrouper$Seen.partnerOf(I)I -/
def wp_X4_partnerOf (G : GP) (post : Int32 → HS → Prop) (y0 : HS) (a0 : Nat) (i1 : Int32) : Prop := ∃ I1 : Nat → HS → Int32 → Prop, (∃ n7, I1 n7 y0 (nI 0)) ∧ ∀ (n2 : Nat) (y3 : HS) (x6 : Int32), I1 n2 y3 x6 → ∃ f8, fR y3 a0 2 0 f8 ∧ ∃ a9, f8 = some a9 ∧ ∃ f10, fR y3 a9 1 2 f10 ∧ ∃ a11, f10 = some a11 ∧ (∃ fs14, rd G y3 a11 (ob 18 fs14)) ∧ wp_J2_size G (fun x13 y12 => (x13 ≤ x6 → post ((-1)) y12) ∧ (¬ x13 ≤ x6 → ∃ f16, fR y12 a0 2 0 f16 ∧ ∃ a17, f16 = some a17 ∧ ∃ f18, fR y12 a17 1 2 f18 ∧ ∃ a19, f18 = some a19 ∧ (∃ fs22, rd G y12 a19 (ob 18 fs22)) ∧ wp_J2_get G (fun r21 y20 => isOf G y20 r21 10 ∧ ∃ a23, r21 = some a23 ∧ ∃ f24, fR y20 a23 10 0 f24 ∧ ∃ a25, f24 = some a25 ∧ (∃ fs28, rd G y20 a25 (ob 8 fs28)) ∧ wp_X10_has G (fun b27 y26 => (b27 = false → ∃ n30, n30 < n2 ∧ I1 n30 y26 (x6 + nI 1)) ∧ (b27 = true → post x6 y26)) y20 a25 i1) y12 a19 x6)) y3 a11
theorem hs_X4_partnerOf : yX4_partnerOf.cls ≠ "java/lang/invoke/MethodHandle" ∧ yX4_partnerOf.cls ≠ "java/lang/invoke/VarHandle" ∧ (parseMethodDescriptor yX4_partnerOf.desc).map (fun d => d.parameters.length) = some 1 := by decide +kernel
theorem hd_X4_partnerOf : yX4_partnerOf.cls = RX4 ∧ yX4_partnerOf.cls ≠ "java/lang/invoke/MethodHandle" ∧ yX4_partnerOf.cls ≠ "java/lang/invoke/VarHandle" ∧ (parseMethodDescriptor yX4_partnerOf.desc).map (fun d => d.parameters.length) = some 1 := by decide +kernel
set_option maxHeartbeats 4000000 in
theorem met_X4_partnerOf (l : Launch) (G : GP) (d : Nat) {post : Int32 → HS → Prop} {y0 : HS} {a0 : Nat} {i1 : Int32} (hw : wp_X4_partnerOf G post y0 a0 i1) : vx_Met l yX4_partnerOf (ws_ yX4_partnerOf cX4_partnerOf 3 (some .int)) (rmB (d + 3) 0) (hPc G y0 [va_rf (some a0), .int (i1)]) (hQi G y0 post) (hX G y0 (fun _ _ _ => False)) 0 (20 * 0) (HA y0) := by
  unfold wp_X4_partnerOf at hw
  refine hv_met (own := RX4) (by decide) rfl (Nat.le_of_ble_eq_true rfl) ?_
  intro p e s m args below meth c ls E hr hlocks hnm hE hK hI hl
  replace hl : lv_has ls 3 [(0, va_rf (some a0)), (1, .int (i1))] := hl
  refine lv_iconst (v := nI 0) E.1 E.2.1 dX4_partnerOf_0 rfl ?_
  refine lv_istore_n (lv' := [(2, .int (nI 0)), (0, va_rf (some a0)), (1, .int (i1))]) E.1 E.2.1 dX4_partnerOf_1 rfl hl (Nat.le_of_ble_eq_true rfl) (by first | rfl | decide | (simp [va_rf_cat, int_cat, long_cat]; done) | (simp [va_rf_cat, int_cat, long_cat]; decide)) (fun ls hl => ?_)
  obtain ⟨I1, ⟨n7, hi32⟩, hb31⟩ := hw
  have L5 : ∀ (n2 : Nat) (y3 : HS) (x6 : Int32), I1 n2 y3 x6 → ∀ (H : Heap) (locs : List Loc) (ls : Array Slot), HI G y0 y3 s H locs → lv_has ls 3 [(0, va_rf (some a0)), (1, .int (i1)), (2, .int (x6))] → W p l e (rmB (d + 3) 0) s m args below meth c H locs 0 (20 * 0) (vx_MQ below (hQi G y0 post) (hX G y0 (fun _ _ _ => False)) args s 0 (20 * 0) (HA y0)) (F0 m 2 ls []) := by
    intro n2
    induction n2 using Nat.strongRecOn with
    | _ n2 ih4 =>
      intro y3 x6 hw H locs ls hI hl
      replace hw := hb31 n2 y3 x6 hw
      refine lv_iload_n E.1 E.2.1 dX4_partnerOf_2 rfl (lv_at hl 2 rfl) ?_
      refine hv_aload_n (r := some a0) E.1 E.2.1 dX4_partnerOf_3 rfl (lv_at hl 0 rfl) ?_
      obtain ⟨f8, ⟨fs, hfs, hfk⟩, hw⟩ := hw
      refine hv_get (v := va_rf f8) E hK hI ciX4 0 (Nat.le_of_ble_eq_true rfl) q1388 (fun _ h => h) (Or.inl hfs) hfk dX4_partnerOf_4 ?_
      obtain ⟨a9, ea9, hw⟩ := hw
      revert hl hw; subst ea9; intro hl hw
      obtain ⟨f10, ⟨fs, hfs, hfk⟩, hw⟩ := hw
      refine hv_getN (v := va_rf f10) E hK hI ciX2 2 (Nat.le_of_ble_eq_true rfl) q239 (fun _ h => h) (Or.inl hfs) hfk dX4_partnerOf_7 ?_
      obtain ⟨a11, ea11, hw⟩ := hw
      revert hl hw; subst ea11; intro hl hw
      obtain ⟨⟨fs14, hrv⟩, hw⟩ := hw
      have hq := hw
      clear hw
      refine hv_calli (u := 0) (B1 := 0) hI (vx_runV (As := []) (rest := [.int (x6)]) E (met_J2_size l G (d + 2) hq) (cwV 0 E.2.2.2.2 (lw_V q1328 q752 q753 q124 q754) rfl rfl rfl hd_J2_size (rm_ok (by omega) (by decide))) (hv_preV hK hI hrv rfl) rfl rfl hl.1 rfl (lv_room (by first | rfl | decide | (simp [va_rf_cat, int_cat, long_cat]; done) | (simp [va_rf_cat, int_cat, long_cat]; decide))) dX4_partnerOf_10 (hv_fit (by first | exact (Nat.le_refl 0) | omega))) (fun _ _ _ _ _ h => h.elim) (fun x13 y12 H locs hw hI => ?_)
      refine lv_icmp_ge (tgt := 48) E.1 E.2.1 dX4_partnerOf_13 (by decide) (fun c15 => ?_) (fun c15 => ?_)
      · replace hw := hw.1 (c15)
        refine lv_iconst (v := (-1)) E.1 E.2.1 dX4_partnerOf_48 rfl ?_
        exact hv_ireti E hr hlocks hI (Nat.le_refl 0) hw dX4_partnerOf_49
      · replace hw := hw.2 (c15)
        refine hv_aload_n (r := some a0) E.1 E.2.1 dX4_partnerOf_16 rfl (lv_at hl 0 rfl) ?_
        obtain ⟨f16, ⟨fs, hfs, hfk⟩, hw⟩ := hw
        refine hv_get (v := va_rf f16) E hK hI ciX4 0 (Nat.le_of_ble_eq_true rfl) q1388 (fun _ h => h) (Or.inl hfs) hfk dX4_partnerOf_17 ?_
        obtain ⟨a17, ea17, hw⟩ := hw
        revert hl hw; subst ea17; intro hl hw
        obtain ⟨f18, ⟨fs, hfs, hfk⟩, hw⟩ := hw
        refine hv_getN (v := va_rf f18) E hK hI ciX2 2 (Nat.le_of_ble_eq_true rfl) q239 (fun _ h => h) (Or.inl hfs) hfk dX4_partnerOf_20 ?_
        refine lv_iload_n E.1 E.2.1 dX4_partnerOf_23 rfl (lv_at hl 2 rfl) ?_
        obtain ⟨a19, ea19, hw⟩ := hw
        revert hl hw; subst ea19; intro hl hw
        obtain ⟨⟨fs22, hrv⟩, hw⟩ := hw
        have hq := hw
        clear hw
        refine hv_callq (u := 0) (B1 := 0) hI (vx_runV (As := [.int (x6)]) (rest := []) E (met_J2_get l G (d) hq) (cwV 1 E.2.2.2.2 (lw_V q1329 q785 q786 q124 q787) rfl rfl rfl hd_J2_get (rm_ok (by omega) (by decide))) (hv_preV hK hI hrv rfl) rfl rfl hl.1 rfl (lv_room (by first | rfl | decide | (simp [va_rf_cat, int_cat, long_cat]; done) | (simp [va_rf_cat, int_cat, long_cat]; decide))) dX4_partnerOf_24 (hv_fit (by first | exact (Nat.le_refl 0) | omega))) (fun _ _ _ _ _ h => h.elim) (fun r21 y20 H locs hw hI => ?_)
        obtain ⟨hof, hw⟩ := hw
        refine hv_castC (cn := 10) E hK hI (by decide) q1637 hof dX4_partnerOf_27 ?_
        obtain ⟨a23, ea23, hw⟩ := hw
        revert hl hw; subst ea23; intro hl hw
        obtain ⟨f24, ⟨fs, hfs, hfk⟩, hw⟩ := hw
        refine hv_getN (v := va_rf f24) E hK hI ciX12 0 (Nat.le_of_ble_eq_true rfl) q1022 (fun _ h => h) (Or.inl hfs) hfk dX4_partnerOf_30 ?_
        refine lv_iload_n E.1 E.2.1 dX4_partnerOf_33 rfl (lv_at hl 1 rfl) ?_
        obtain ⟨a25, ea25, hw⟩ := hw
        revert hl hw; subst ea25; intro hl hw
        obtain ⟨⟨fs28, hrv⟩, hw⟩ := hw
        have hq := hw
        clear hw
        refine hv_callz (u := 0) (B1 := 0) hI (vx_runV (As := [.int (i1)]) (rest := []) E (met_X10_has l G (d + 1) hq) (cwV 1 E.2.2.2.2 (lw_V q1318 q1319 q1320 q154 q1321) rfl rfl rfl hd_X10_has (rm_ok (by omega) (by decide))) (hv_preV hK hI hrv rfl) rfl rfl hl.1 rfl (lv_room (by first | rfl | decide | (simp [va_rf_cat, int_cat, long_cat]; done) | (simp [va_rf_cat, int_cat, long_cat]; decide))) dX4_partnerOf_34 (hv_fit (by first | exact (Nat.le_refl 0) | omega))) (fun _ _ _ _ _ h => h.elim) (fun b27 y26 H locs hw hI => ?_)
        refine lv_if_eq (tgt := 42) E.1 E.2.1 dX4_partnerOf_37 (by decide) (fun c29 => ?_) (fun c29 => ?_)
        · replace hw := hw.1 (bi_z c29)
          refine lv_iinc (k := 2) (v := x6 + nI 1) (lv' := [(2, .int (x6 + nI 1)), (0, va_rf (some a0)), (1, .int (i1))]) E.1 E.2.1 dX4_partnerOf_42 hl rfl rfl (Nat.le_of_ble_eq_true rfl) (by first | rfl | decide | (simp [va_rf_cat, int_cat, long_cat]; done) | (simp [va_rf_cat, int_cat, long_cat]; decide)) (fun ls hl => ?_)
          refine lv_goto (tgt := 2) E.1 E.2.1 dX4_partnerOf_45 (by decide) ?_
          obtain ⟨n30, hnn30, hin30⟩ := hw
          exact ih4 n30 hnn30 _ _ hin30 _ _ _ hI (lv_sub hl [1, 2, 0] rfl)
        · replace hw := hw.2 (bi_n c29)
          refine lv_iload_n E.1 E.2.1 dX4_partnerOf_40 rfl (lv_at hl 2 rfl) ?_
          exact hv_ireti E hr hlocks hI (Nat.le_refl 0) hw dX4_partnerOf_41
  exact L5 n7 _ _ hi32 _ _ _ hI (lv_sub hl [1, 2, 0] rfl)
/-- CaseGrouper$Seen.levelOf()I -/
def wp_X4_levelOf (G : GP) (post : Int32 → HS → Prop) (y0 : HS) (a0 : Nat) : Prop := ∃ I1 : Nat → HS → Int32 → Int32 → Prop, (∃ n8, I1 n8 y0 (nI 0) (nI 0)) ∧ ∀ (n2 : Nat) (y3 : HS) (x6 : Int32) (x7 : Int32), I1 n2 y3 x6 x7 → ∃ f9, fR y3 a0 2 1 f9 ∧ ∃ a10, f9 = some a10 ∧ ∃ f11, fR y3 a10 17 3 f11 ∧ ∃ a12, f11 = some a12 ∧ (∃ fs15, rd G y3 a12 (ob 18 fs15)) ∧ wp_J2_size G (fun x14 y13 => (x14 ≤ x7 → post x6 y13) ∧ (¬ x14 ≤ x7 → ∃ f17, fR y13 a0 2 1 f17 ∧ ∃ a18, f17 = some a18 ∧ ∃ f19, fR y13 a18 17 3 f19 ∧ ∃ a20, f19 = some a20 ∧ (∃ fs23, rd G y13 a20 (ob 18 fs23)) ∧ wp_J2_get G (fun r22 y21 => isOf G y21 r22 21 ∧ ∃ a24, r22 = some a24 ∧ (∃ fs27, rd G y21 a24 (ob 21 fs27)) ∧ wp_J13_intValue G (fun x26 y25 => (∃ fs30, rd G y25 a0 (ob 2 fs30)) ∧ wp_X4_partnerOf G (fun x29 y28 => (∃ fs33, rd G y28 a0 (ob 2 fs33)) ∧ wp_X4_counts G (fun b32 y31 => (b32 = false → ∃ n35, n35 < n2 ∧ I1 n35 y31 x6 (x7 + nI 1)) ∧ (b32 = true → ∃ f36, fR y31 a0 2 0 f36 ∧ ∃ a37, f36 = some a37 ∧ ∃ f38, fR y31 a37 1 2 f38 ∧ ∃ a39, f38 = some a39 ∧ (∃ fs42, rd G y31 a39 (ob 18 fs42)) ∧ wp_J2_get G (fun r41 y40 => isOf G y40 r41 10 ∧ ∃ a43, r41 = some a43 ∧ ∃ f44, fI y40 a43 10 1 f44 ∧ ∀ x45, x45 = (if x6 < f44 then f44 else x6) → ∃ n46, n46 < n2 ∧ I1 n46 y40 x45 (x7 + nI 1)) y31 a39 x29)) y28 a0 x26 x29) y25 a0 x26) y21 a24) y13 a20 x7)) y3 a12
theorem hs_X4_levelOf : yX4_levelOf.cls ≠ "java/lang/invoke/MethodHandle" ∧ yX4_levelOf.cls ≠ "java/lang/invoke/VarHandle" ∧ (parseMethodDescriptor yX4_levelOf.desc).map (fun d => d.parameters.length) = some 0 := by decide +kernel
theorem hd_X4_levelOf : yX4_levelOf.cls = RX4 ∧ yX4_levelOf.cls ≠ "java/lang/invoke/MethodHandle" ∧ yX4_levelOf.cls ≠ "java/lang/invoke/VarHandle" ∧ (parseMethodDescriptor yX4_levelOf.desc).map (fun d => d.parameters.length) = some 0 := by decide +kernel
set_option maxHeartbeats 4000000 in
theorem met_X4_levelOf (l : Launch) (G : GP) (d : Nat) {post : Int32 → HS → Prop} {y0 : HS} {a0 : Nat} (hw : wp_X4_levelOf G post y0 a0) : vx_Met l yX4_levelOf (ws_ yX4_levelOf cX4_levelOf 5 (some .int)) (rmB (d + 5) 0) (hPc G y0 [va_rf (some a0)]) (hQi G y0 post) (hX G y0 (fun _ _ _ => False)) 0 (20 * 0) (HA y0) := by
  unfold wp_X4_levelOf at hw
  refine hv_met (own := RX4) (by decide) rfl (Nat.le_of_ble_eq_true rfl) ?_
  intro p e s m args below meth c ls E hr hlocks hnm hE hK hI hl
  replace hl : lv_has ls 5 [(0, va_rf (some a0))] := hl
  refine lv_iconst (v := nI 0) E.1 E.2.1 dX4_levelOf_0 rfl ?_
  refine lv_istore_n (lv' := [(1, .int (nI 0)), (0, va_rf (some a0))]) E.1 E.2.1 dX4_levelOf_1 rfl hl (Nat.le_of_ble_eq_true rfl) (by first | rfl | decide | (simp [va_rf_cat, int_cat, long_cat]; done) | (simp [va_rf_cat, int_cat, long_cat]; decide)) (fun ls hl => ?_)
  refine lv_iconst (v := nI 0) E.1 E.2.1 dX4_levelOf_2 rfl ?_
  refine lv_istore_n (lv' := [(2, .int (nI 0)), (1, .int (nI 0)), (0, va_rf (some a0))]) E.1 E.2.1 dX4_levelOf_3 rfl hl (Nat.le_of_ble_eq_true rfl) (by first | rfl | decide | (simp [va_rf_cat, int_cat, long_cat]; done) | (simp [va_rf_cat, int_cat, long_cat]; decide)) (fun ls hl => ?_)
  obtain ⟨I1, ⟨n8, hi48⟩, hb47⟩ := hw
  have L5 : ∀ (n2 : Nat) (y3 : HS) (x6 : Int32) (x7 : Int32), I1 n2 y3 x6 x7 → ∀ (H : Heap) (locs : List Loc) (ls : Array Slot), HI G y0 y3 s H locs → lv_has ls 5 [(0, va_rf (some a0)), (1, .int (x6)), (2, .int (x7))] → W p l e (rmB (d + 5) 0) s m args below meth c H locs 0 (20 * 0) (vx_MQ below (hQi G y0 post) (hX G y0 (fun _ _ _ => False)) args s 0 (20 * 0) (HA y0)) (F0 m 4 ls []) := by
    intro n2
    induction n2 using Nat.strongRecOn with
    | _ n2 ih4 =>
      intro y3 x6 x7 hw H locs ls hI hl
      replace hw := hb47 n2 y3 x6 x7 hw
      refine lv_iload_n E.1 E.2.1 dX4_levelOf_4 rfl (lv_at hl 2 rfl) ?_
      refine hv_aload_n (r := some a0) E.1 E.2.1 dX4_levelOf_5 rfl (lv_at hl 0 rfl) ?_
      obtain ⟨f9, ⟨fs, hfs, hfk⟩, hw⟩ := hw
      refine hv_get (v := va_rf f9) E hK hI ciX4 1 (Nat.le_of_ble_eq_true rfl) q1389 (fun _ h => h) (Or.inl hfs) hfk dX4_levelOf_6 ?_
      obtain ⟨a10, ea10, hw⟩ := hw
      revert hl hw; subst ea10; intro hl hw
      obtain ⟨f11, ⟨fs, hfs, hfk⟩, hw⟩ := hw
      refine hv_getN (v := va_rf f11) E hK hI ciX19 3 (Nat.le_of_ble_eq_true rfl) q1470 (fun _ h => h) (Or.inl hfs) hfk dX4_levelOf_9 ?_
      obtain ⟨a12, ea12, hw⟩ := hw
      revert hl hw; subst ea12; intro hl hw
      obtain ⟨⟨fs15, hrv⟩, hw⟩ := hw
      have hq := hw
      clear hw
      refine hv_calli (u := 0) (B1 := 0) hI (vx_runV (As := []) (rest := [.int (x7)]) E (met_J2_size l G (d + 4) hq) (cwV 0 E.2.2.2.2 (lw_V q1328 q752 q753 q124 q754) rfl rfl rfl hd_J2_size (rm_ok (by omega) (by decide))) (hv_preV hK hI hrv rfl) rfl rfl hl.1 rfl (lv_room (by first | rfl | decide | (simp [va_rf_cat, int_cat, long_cat]; done) | (simp [va_rf_cat, int_cat, long_cat]; decide))) dX4_levelOf_12 (hv_fit (by first | exact (Nat.le_refl 0) | omega))) (fun _ _ _ _ _ h => h.elim) (fun x14 y13 H locs hw hI => ?_)
      refine lv_icmp_ge (tgt := 82) E.1 E.2.1 dX4_levelOf_15 (by decide) (fun c16 => ?_) (fun c16 => ?_)
      · replace hw := hw.1 (c16)
        refine lv_iload_n E.1 E.2.1 dX4_levelOf_82 rfl (lv_at hl 1 rfl) ?_
        exact hv_ireti E hr hlocks hI (Nat.le_refl 0) hw dX4_levelOf_83
      · replace hw := hw.2 (c16)
        refine hv_aload_n (r := some a0) E.1 E.2.1 dX4_levelOf_18 rfl (lv_at hl 0 rfl) ?_
        obtain ⟨f17, ⟨fs, hfs, hfk⟩, hw⟩ := hw
        refine hv_get (v := va_rf f17) E hK hI ciX4 1 (Nat.le_of_ble_eq_true rfl) q1389 (fun _ h => h) (Or.inl hfs) hfk dX4_levelOf_19 ?_
        obtain ⟨a18, ea18, hw⟩ := hw
        revert hl hw; subst ea18; intro hl hw
        obtain ⟨f19, ⟨fs, hfs, hfk⟩, hw⟩ := hw
        refine hv_getN (v := va_rf f19) E hK hI ciX19 3 (Nat.le_of_ble_eq_true rfl) q1470 (fun _ h => h) (Or.inl hfs) hfk dX4_levelOf_22 ?_
        refine lv_iload_n E.1 E.2.1 dX4_levelOf_25 rfl (lv_at hl 2 rfl) ?_
        obtain ⟨a20, ea20, hw⟩ := hw
        revert hl hw; subst ea20; intro hl hw
        obtain ⟨⟨fs23, hrv⟩, hw⟩ := hw
        have hq := hw
        clear hw
        refine hv_callq (u := 0) (B1 := 0) hI (vx_runV (As := [.int (x7)]) (rest := []) E (met_J2_get l G (d + 2) hq) (cwV 1 E.2.2.2.2 (lw_V q1329 q785 q786 q124 q787) rfl rfl rfl hd_J2_get (rm_ok (by omega) (by decide))) (hv_preV hK hI hrv rfl) rfl rfl hl.1 rfl (lv_room (by first | rfl | decide | (simp [va_rf_cat, int_cat, long_cat]; done) | (simp [va_rf_cat, int_cat, long_cat]; decide))) dX4_levelOf_26 (hv_fit (by first | exact (Nat.le_refl 0) | omega))) (fun _ _ _ _ _ h => h.elim) (fun r22 y21 H locs hw hI => ?_)
        obtain ⟨hof, hw⟩ := hw
        refine hv_castC (cn := 21) E hK hI (by decide) q1330 hof dX4_levelOf_29 ?_
        obtain ⟨a24, ea24, hw⟩ := hw
        revert hl hw; subst ea24; intro hl hw
        obtain ⟨⟨fs27, hrv⟩, hw⟩ := hw
        have hq := hw
        clear hw
        refine hv_calli (u := 0) (B1 := 0) hI (vx_runV (As := []) (rest := []) E (met_J13_intValue l G (d + 4) hq) (cwV 0 E.2.2.2.2 (lw_V q1331 q993 q994 q141 q995) rfl rfl rfl hd_J13_intValue (rm_ok (by omega) (by decide))) (hv_preV hK hI hrv rfl) rfl rfl hl.1 rfl (lv_room (by first | rfl | decide | (simp [va_rf_cat, int_cat, long_cat]; done) | (simp [va_rf_cat, int_cat, long_cat]; decide))) dX4_levelOf_32 (hv_fit (by first | exact (Nat.le_refl 0) | omega))) (fun _ _ _ _ _ h => h.elim) (fun x26 y25 H locs hw hI => ?_)
        refine lv_istore_n (lv' := [(3, .int (x26)), (0, va_rf (some a0)), (1, .int (x6)), (2, .int (x7))]) E.1 E.2.1 dX4_levelOf_35 rfl hl (Nat.le_of_ble_eq_true rfl) (by first | rfl | decide | (simp [va_rf_cat, int_cat, long_cat]; done) | (simp [va_rf_cat, int_cat, long_cat]; decide)) (fun ls hl => ?_)
        refine hv_aload_n (r := some a0) E.1 E.2.1 dX4_levelOf_36 rfl (lv_at hl 1 rfl) ?_
        refine lv_iload_n E.1 E.2.1 dX4_levelOf_37 rfl (lv_at hl 0 rfl) ?_
        obtain ⟨⟨fs30, hrv⟩, hw⟩ := hw
        have hq := hw
        clear hw
        refine hv_calli (u := 0) (B1 := 0) hI (vx_runV (As := [.int (x26)]) (rest := []) E (met_X4_partnerOf l G (d + 1) hq) (cwV 1 E.2.2.2.2 (lw_V q1633 q1634 q1635 q127 q1636) rfl rfl rfl hd_X4_partnerOf (rm_ok (by omega) (by decide))) (hv_preV hK hI hrv rfl) rfl rfl hl.1 rfl (lv_room (by first | rfl | decide | (simp [va_rf_cat, int_cat, long_cat]; done) | (simp [va_rf_cat, int_cat, long_cat]; decide))) dX4_levelOf_38 (hv_fit (by first | exact (Nat.le_refl 0) | omega))) (fun _ _ _ _ _ h => h.elim) (fun x29 y28 H locs hw hI => ?_)
        refine lv_istore (lv' := [(4, .int (x29)), (3, .int (x26)), (0, va_rf (some a0)), (1, .int (x6)), (2, .int (x7))]) E.1 E.2.1 dX4_levelOf_41 hl (Nat.le_of_ble_eq_true rfl) (by first | rfl | decide | (simp [va_rf_cat, int_cat, long_cat]; done) | (simp [va_rf_cat, int_cat, long_cat]; decide)) (fun ls hl => ?_)
        refine hv_aload_n (r := some a0) E.1 E.2.1 dX4_levelOf_43 rfl (lv_at hl 2 rfl) ?_
        refine lv_iload_n E.1 E.2.1 dX4_levelOf_44 rfl (lv_at hl 1 rfl) ?_
        refine lv_iload E.1 E.2.1 dX4_levelOf_45 (lv_at hl 0 rfl) ?_
        obtain ⟨⟨fs33, hrv⟩, hw⟩ := hw
        have hq := hw
        clear hw
        refine hv_callz (u := 0) (B1 := 0) hI (vx_runV (As := [.int (x26), .int (x29)]) (rest := []) E (met_X4_counts l G (d) hq) (cwV 2 E.2.2.2.2 (lw_V q1638 q1639 q1640 q127 q1641) rfl rfl rfl hd_X4_counts (rm_ok (by omega) (by decide))) (hv_preV hK hI hrv rfl) rfl rfl hl.1 rfl (lv_room (by first | rfl | decide | (simp [va_rf_cat, int_cat, long_cat]; done) | (simp [va_rf_cat, int_cat, long_cat]; decide))) dX4_levelOf_47 (hv_fit (by first | exact (Nat.le_refl 0) | omega))) (fun _ _ _ _ _ h => h.elim) (fun b32 y31 H locs hw hI => ?_)
        refine lv_if_eq (tgt := 76) E.1 E.2.1 dX4_levelOf_50 (by decide) (fun c34 => ?_) (fun c34 => ?_)
        · replace hw := hw.1 (bi_z c34)
          refine lv_iinc (k := 4) (v := x7 + nI 1) (lv' := [(2, .int (x7 + nI 1)), (4, .int (x29)), (3, .int (x26)), (0, va_rf (some a0)), (1, .int (x6))]) E.1 E.2.1 dX4_levelOf_76 hl rfl rfl (Nat.le_of_ble_eq_true rfl) (by first | rfl | decide | (simp [va_rf_cat, int_cat, long_cat]; done) | (simp [va_rf_cat, int_cat, long_cat]; decide)) (fun ls hl => ?_)
          refine lv_goto (tgt := 4) E.1 E.2.1 dX4_levelOf_79 (by decide) ?_
          obtain ⟨n35, hnn35, hin35⟩ := hw
          exact ih4 n35 hnn35 _ _ _ hin35 _ _ _ hI (lv_sub hl [3, 4, 0] rfl)
        · replace hw := hw.2 (bi_n c34)
          refine lv_iload_n E.1 E.2.1 dX4_levelOf_53 rfl (lv_at hl 3 rfl) ?_
          refine hv_aload_n (r := some a0) E.1 E.2.1 dX4_levelOf_54 rfl (lv_at hl 2 rfl) ?_
          obtain ⟨f36, ⟨fs, hfs, hfk⟩, hw⟩ := hw
          refine hv_get (v := va_rf f36) E hK hI ciX4 0 (Nat.le_of_ble_eq_true rfl) q1388 (fun _ h => h) (Or.inl hfs) hfk dX4_levelOf_55 ?_
          obtain ⟨a37, ea37, hw⟩ := hw
          revert hl hw; subst ea37; intro hl hw
          obtain ⟨f38, ⟨fs, hfs, hfk⟩, hw⟩ := hw
          refine hv_getN (v := va_rf f38) E hK hI ciX2 2 (Nat.le_of_ble_eq_true rfl) q239 (fun _ h => h) (Or.inl hfs) hfk dX4_levelOf_58 ?_
          refine lv_iload E.1 E.2.1 dX4_levelOf_61 (lv_at hl 0 rfl) ?_
          obtain ⟨a39, ea39, hw⟩ := hw
          revert hl hw; subst ea39; intro hl hw
          obtain ⟨⟨fs42, hrv⟩, hw⟩ := hw
          have hq := hw
          clear hw
          refine hv_callq (u := 0) (B1 := 0) hI (vx_runV (As := [.int (x29)]) (rest := [.int (x6)]) E (met_J2_get l G (d + 2) hq) (cwV 1 E.2.2.2.2 (lw_V q1329 q785 q786 q124 q787) rfl rfl rfl hd_J2_get (rm_ok (by omega) (by decide))) (hv_preV hK hI hrv rfl) rfl rfl hl.1 rfl (lv_room (by first | rfl | decide | (simp [va_rf_cat, int_cat, long_cat]; done) | (simp [va_rf_cat, int_cat, long_cat]; decide))) dX4_levelOf_63 (hv_fit (by first | exact (Nat.le_refl 0) | omega))) (fun _ _ _ _ _ h => h.elim) (fun r41 y40 H locs hw hI => ?_)
          obtain ⟨hof, hw⟩ := hw
          refine hv_castC (cn := 10) E hK hI (by decide) q1637 hof dX4_levelOf_66 ?_
          obtain ⟨a43, ea43, hw⟩ := hw
          revert hl hw; subst ea43; intro hl hw
          obtain ⟨f44, ⟨fs, hfs, hfk⟩, hw⟩ := hw
          refine hv_getN (v := .int f44) E hK hI ciX12 1 (Nat.le_of_ble_eq_true rfl) q1024 (fun _ h => h) (Or.inl hfs) hfk dX4_levelOf_69 ?_
          refine va_mmax (rest := []) E.1 E.2.1 (by rw [E.2.2.1]; exact hl.1.symm) E.2.2.2.1 (E.2.2.2.2 _ q1628) (E.2.2.2.2 _ q393) (E.2.2.2.2 _ q135) (E.2.2.2.2 _ q394) (mm_fr _) (mm_lo _ (by first | exact Nat.zero_le _ | decide | (simp [va_rf_cat, int_cat, long_cat]; done) | (simp [va_rf_cat, int_cat, long_cat]; decide))) (by first | exact hu | exact Nat.le_refl 0) (mm_sl (by first | exact hu | exact Nat.le_refl 0)) dX4_levelOf_72 ?_
          refine lv_topi (fun x45 ex45 => ?_)
          replace hw := hw x45 ex45
          refine lv_istore_n (lv' := [(1, .int (x45)), (4, .int (x29)), (3, .int (x26)), (0, va_rf (some a0)), (2, .int (x7))]) E.1 E.2.1 dX4_levelOf_75 rfl hl (Nat.le_of_ble_eq_true rfl) (by first | rfl | decide | (simp [va_rf_cat, int_cat, long_cat]; done) | (simp [va_rf_cat, int_cat, long_cat]; decide)) (fun ls hl => ?_)
          refine lv_iinc (k := 4) (v := x7 + nI 1) (lv' := [(2, .int (x7 + nI 1)), (1, .int (x45)), (4, .int (x29)), (3, .int (x26)), (0, va_rf (some a0))]) E.1 E.2.1 dX4_levelOf_76 hl rfl rfl (Nat.le_of_ble_eq_true rfl) (by first | rfl | decide | (simp [va_rf_cat, int_cat, long_cat]; done) | (simp [va_rf_cat, int_cat, long_cat]; decide)) (fun ls hl => ?_)
          refine lv_goto (tgt := 4) E.1 E.2.1 dX4_levelOf_79 (by decide) ?_
          obtain ⟨n46, hnn46, hin46⟩ := hw
          exact ih4 n46 hnn46 _ _ _ hin46 _ _ _ hI (lv_sub hl [4, 1, 0] rfl)
  exact L5 n8 _ _ _ hi48 _ _ _ hI (lv_sub hl [2, 1, 0] rfl)
/-- CaseGrouper$Seen.rankOf(I)I -/
def wp_X4_rankOf (G : GP) (post : Int32 → HS → Prop) (y0 : HS) (a0 : Nat) (i1 : Int32) : Prop := ∃ I1 : Nat → HS → Int32 → Prop, (∃ n7, I1 n7 y0 (nI 0)) ∧ ∀ (n2 : Nat) (y3 : HS) (x6 : Int32), I1 n2 y3 x6 → ∃ f8, fR y3 a0 2 0 f8 ∧ ∃ a9, f8 = some a9 ∧ ∃ f10, fR y3 a9 1 1 f10 ∧ ∃ a11, f10 = some a11 ∧ (∃ fs14, rd G y3 a11 (ob 18 fs14)) ∧ wp_J2_size G (fun x13 y12 => (x13 ≤ x6 → post (nI 0) y12) ∧ (¬ x13 ≤ x6 → ∃ f16, fR y12 a0 2 0 f16 ∧ ∃ a17, f16 = some a17 ∧ ∃ f18, fR y12 a17 1 1 f18 ∧ ∃ a19, f18 = some a19 ∧ (∃ fs22, rd G y12 a19 (ob 18 fs22)) ∧ wp_J2_get G (fun r21 y20 => isOf G y20 r21 9 ∧ ∃ a23, r21 = some a23 ∧ ∃ f24, fR y20 a23 9 0 f24 ∧ ∃ a25, f24 = some a25 ∧ (∃ fs28, rd G y20 a25 (ob 8 fs28)) ∧ wp_X10_has G (fun b27 y26 => (b27 = false → ∃ n30, n30 < n2 ∧ I1 n30 y26 (x6 + nI 1)) ∧ (b27 = true → ∃ f31, fR y26 a0 2 0 f31 ∧ ∃ a32, f31 = some a32 ∧ ∃ f33, fR y26 a32 1 1 f33 ∧ ∃ a34, f33 = some a34 ∧ (∃ fs37, rd G y26 a34 (ob 18 fs37)) ∧ wp_J2_get G (fun r36 y35 => isOf G y35 r36 9 ∧ ∃ a38, r36 = some a38 ∧ ∃ f39, fI y35 a38 9 1 f39 ∧ post f39 y35) y26 a34 x6)) y20 a25 i1) y12 a19 x6)) y3 a11
theorem hs_X4_rankOf : yX4_rankOf.cls ≠ "java/lang/invoke/MethodHandle" ∧ yX4_rankOf.cls ≠ "java/lang/invoke/VarHandle" ∧ (parseMethodDescriptor yX4_rankOf.desc).map (fun d => d.parameters.length) = some 1 := by decide +kernel
theorem hd_X4_rankOf : yX4_rankOf.cls = RX4 ∧ yX4_rankOf.cls ≠ "java/lang/invoke/MethodHandle" ∧ yX4_rankOf.cls ≠ "java/lang/invoke/VarHandle" ∧ (parseMethodDescriptor yX4_rankOf.desc).map (fun d => d.parameters.length) = some 1 := by decide +kernel
set_option maxHeartbeats 4000000 in
theorem met_X4_rankOf (l : Launch) (G : GP) (d : Nat) {post : Int32 → HS → Prop} {y0 : HS} {a0 : Nat} {i1 : Int32} (hw : wp_X4_rankOf G post y0 a0 i1) : vx_Met l yX4_rankOf (ws_ yX4_rankOf cX4_rankOf 3 (some .int)) (rmB (d + 3) 0) (hPc G y0 [va_rf (some a0), .int (i1)]) (hQi G y0 post) (hX G y0 (fun _ _ _ => False)) 0 (20 * 0) (HA y0) := by
  unfold wp_X4_rankOf at hw
  refine hv_met (own := RX4) (by decide) rfl (Nat.le_of_ble_eq_true rfl) ?_
  intro p e s m args below meth c ls E hr hlocks hnm hE hK hI hl
  replace hl : lv_has ls 3 [(0, va_rf (some a0)), (1, .int (i1))] := hl
  refine lv_iconst (v := nI 0) E.1 E.2.1 dX4_rankOf_0 rfl ?_
  refine lv_istore_n (lv' := [(2, .int (nI 0)), (0, va_rf (some a0)), (1, .int (i1))]) E.1 E.2.1 dX4_rankOf_1 rfl hl (Nat.le_of_ble_eq_true rfl) (by first | rfl | decide | (simp [va_rf_cat, int_cat, long_cat]; done) | (simp [va_rf_cat, int_cat, long_cat]; decide)) (fun ls hl => ?_)
  obtain ⟨I1, ⟨n7, hi41⟩, hb40⟩ := hw
  have L5 : ∀ (n2 : Nat) (y3 : HS) (x6 : Int32), I1 n2 y3 x6 → ∀ (H : Heap) (locs : List Loc) (ls : Array Slot), HI G y0 y3 s H locs → lv_has ls 3 [(0, va_rf (some a0)), (1, .int (i1)), (2, .int (x6))] → W p l e (rmB (d + 3) 0) s m args below meth c H locs 0 (20 * 0) (vx_MQ below (hQi G y0 post) (hX G y0 (fun _ _ _ => False)) args s 0 (20 * 0) (HA y0)) (F0 m 2 ls []) := by
    intro n2
    induction n2 using Nat.strongRecOn with
    | _ n2 ih4 =>
      intro y3 x6 hw H locs ls hI hl
      replace hw := hb40 n2 y3 x6 hw
      refine lv_iload_n E.1 E.2.1 dX4_rankOf_2 rfl (lv_at hl 2 rfl) ?_
      refine hv_aload_n (r := some a0) E.1 E.2.1 dX4_rankOf_3 rfl (lv_at hl 0 rfl) ?_
      obtain ⟨f8, ⟨fs, hfs, hfk⟩, hw⟩ := hw
      refine hv_get (v := va_rf f8) E hK hI ciX4 0 (Nat.le_of_ble_eq_true rfl) q1388 (fun _ h => h) (Or.inl hfs) hfk dX4_rankOf_4 ?_
      obtain ⟨a9, ea9, hw⟩ := hw
      revert hl hw; subst ea9; intro hl hw
      obtain ⟨f10, ⟨fs, hfs, hfk⟩, hw⟩ := hw
      refine hv_getN (v := va_rf f10) E hK hI ciX2 1 (Nat.le_of_ble_eq_true rfl) q235 (fun _ h => h) (Or.inl hfs) hfk dX4_rankOf_7 ?_
      obtain ⟨a11, ea11, hw⟩ := hw
      revert hl hw; subst ea11; intro hl hw
      obtain ⟨⟨fs14, hrv⟩, hw⟩ := hw
      have hq := hw
      clear hw
      refine hv_calli (u := 0) (B1 := 0) hI (vx_runV (As := []) (rest := [.int (x6)]) E (met_J2_size l G (d + 2) hq) (cwV 0 E.2.2.2.2 (lw_V q1328 q752 q753 q124 q754) rfl rfl rfl hd_J2_size (rm_ok (by omega) (by decide))) (hv_preV hK hI hrv rfl) rfl rfl hl.1 rfl (lv_room (by first | rfl | decide | (simp [va_rf_cat, int_cat, long_cat]; done) | (simp [va_rf_cat, int_cat, long_cat]; decide))) dX4_rankOf_10 (hv_fit (by first | exact (Nat.le_refl 0) | omega))) (fun _ _ _ _ _ h => h.elim) (fun x13 y12 H locs hw hI => ?_)
      refine lv_icmp_ge (tgt := 64) E.1 E.2.1 dX4_rankOf_13 (by decide) (fun c15 => ?_) (fun c15 => ?_)
      · replace hw := hw.1 (c15)
        refine lv_iconst (v := nI 0) E.1 E.2.1 dX4_rankOf_64 rfl ?_
        exact hv_ireti E hr hlocks hI (Nat.le_refl 0) hw dX4_rankOf_65
      · replace hw := hw.2 (c15)
        refine hv_aload_n (r := some a0) E.1 E.2.1 dX4_rankOf_16 rfl (lv_at hl 0 rfl) ?_
        obtain ⟨f16, ⟨fs, hfs, hfk⟩, hw⟩ := hw
        refine hv_get (v := va_rf f16) E hK hI ciX4 0 (Nat.le_of_ble_eq_true rfl) q1388 (fun _ h => h) (Or.inl hfs) hfk dX4_rankOf_17 ?_
        obtain ⟨a17, ea17, hw⟩ := hw
        revert hl hw; subst ea17; intro hl hw
        obtain ⟨f18, ⟨fs, hfs, hfk⟩, hw⟩ := hw
        refine hv_getN (v := va_rf f18) E hK hI ciX2 1 (Nat.le_of_ble_eq_true rfl) q235 (fun _ h => h) (Or.inl hfs) hfk dX4_rankOf_20 ?_
        refine lv_iload_n E.1 E.2.1 dX4_rankOf_23 rfl (lv_at hl 2 rfl) ?_
        obtain ⟨a19, ea19, hw⟩ := hw
        revert hl hw; subst ea19; intro hl hw
        obtain ⟨⟨fs22, hrv⟩, hw⟩ := hw
        have hq := hw
        clear hw
        refine hv_callq (u := 0) (B1 := 0) hI (vx_runV (As := [.int (x6)]) (rest := []) E (met_J2_get l G (d) hq) (cwV 1 E.2.2.2.2 (lw_V q1329 q785 q786 q124 q787) rfl rfl rfl hd_J2_get (rm_ok (by omega) (by decide))) (hv_preV hK hI hrv rfl) rfl rfl hl.1 rfl (lv_room (by first | rfl | decide | (simp [va_rf_cat, int_cat, long_cat]; done) | (simp [va_rf_cat, int_cat, long_cat]; decide))) dX4_rankOf_24 (hv_fit (by first | exact (Nat.le_refl 0) | omega))) (fun _ _ _ _ _ h => h.elim) (fun r21 y20 H locs hw hI => ?_)
        obtain ⟨hof, hw⟩ := hw
        refine hv_castC (cn := 9) E hK hI (by decide) q1627 hof dX4_rankOf_27 ?_
        obtain ⟨a23, ea23, hw⟩ := hw
        revert hl hw; subst ea23; intro hl hw
        obtain ⟨f24, ⟨fs, hfs, hfk⟩, hw⟩ := hw
        refine hv_getN (v := va_rf f24) E hK hI ciX11 0 (Nat.le_of_ble_eq_true rfl) q1001 (fun _ h => h) (Or.inl hfs) hfk dX4_rankOf_30 ?_
        refine lv_iload_n E.1 E.2.1 dX4_rankOf_33 rfl (lv_at hl 1 rfl) ?_
        obtain ⟨a25, ea25, hw⟩ := hw
        revert hl hw; subst ea25; intro hl hw
        obtain ⟨⟨fs28, hrv⟩, hw⟩ := hw
        have hq := hw
        clear hw
        refine hv_callz (u := 0) (B1 := 0) hI (vx_runV (As := [.int (i1)]) (rest := []) E (met_X10_has l G (d + 1) hq) (cwV 1 E.2.2.2.2 (lw_V q1318 q1319 q1320 q154 q1321) rfl rfl rfl hd_X10_has (rm_ok (by omega) (by decide))) (hv_preV hK hI hrv rfl) rfl rfl hl.1 rfl (lv_room (by first | rfl | decide | (simp [va_rf_cat, int_cat, long_cat]; done) | (simp [va_rf_cat, int_cat, long_cat]; decide))) dX4_rankOf_34 (hv_fit (by first | exact (Nat.le_refl 0) | omega))) (fun _ _ _ _ _ h => h.elim) (fun b27 y26 H locs hw hI => ?_)
        refine lv_if_eq (tgt := 58) E.1 E.2.1 dX4_rankOf_37 (by decide) (fun c29 => ?_) (fun c29 => ?_)
        · replace hw := hw.1 (bi_z c29)
          refine lv_iinc (k := 2) (v := x6 + nI 1) (lv' := [(2, .int (x6 + nI 1)), (0, va_rf (some a0)), (1, .int (i1))]) E.1 E.2.1 dX4_rankOf_58 hl rfl rfl (Nat.le_of_ble_eq_true rfl) (by first | rfl | decide | (simp [va_rf_cat, int_cat, long_cat]; done) | (simp [va_rf_cat, int_cat, long_cat]; decide)) (fun ls hl => ?_)
          refine lv_goto (tgt := 2) E.1 E.2.1 dX4_rankOf_61 (by decide) ?_
          obtain ⟨n30, hnn30, hin30⟩ := hw
          exact ih4 n30 hnn30 _ _ hin30 _ _ _ hI (lv_sub hl [1, 2, 0] rfl)
        · replace hw := hw.2 (bi_n c29)
          refine hv_aload_n (r := some a0) E.1 E.2.1 dX4_rankOf_40 rfl (lv_at hl 0 rfl) ?_
          obtain ⟨f31, ⟨fs, hfs, hfk⟩, hw⟩ := hw
          refine hv_get (v := va_rf f31) E hK hI ciX4 0 (Nat.le_of_ble_eq_true rfl) q1388 (fun _ h => h) (Or.inl hfs) hfk dX4_rankOf_41 ?_
          obtain ⟨a32, ea32, hw⟩ := hw
          revert hl hw; subst ea32; intro hl hw
          obtain ⟨f33, ⟨fs, hfs, hfk⟩, hw⟩ := hw
          refine hv_getN (v := va_rf f33) E hK hI ciX2 1 (Nat.le_of_ble_eq_true rfl) q235 (fun _ h => h) (Or.inl hfs) hfk dX4_rankOf_44 ?_
          refine lv_iload_n E.1 E.2.1 dX4_rankOf_47 rfl (lv_at hl 2 rfl) ?_
          obtain ⟨a34, ea34, hw⟩ := hw
          revert hl hw; subst ea34; intro hl hw
          obtain ⟨⟨fs37, hrv⟩, hw⟩ := hw
          have hq := hw
          clear hw
          refine hv_callq (u := 0) (B1 := 0) hI (vx_runV (As := [.int (x6)]) (rest := []) E (met_J2_get l G (d) hq) (cwV 1 E.2.2.2.2 (lw_V q1329 q785 q786 q124 q787) rfl rfl rfl hd_J2_get (rm_ok (by omega) (by decide))) (hv_preV hK hI hrv rfl) rfl rfl hl.1 rfl (lv_room (by first | rfl | decide | (simp [va_rf_cat, int_cat, long_cat]; done) | (simp [va_rf_cat, int_cat, long_cat]; decide))) dX4_rankOf_48 (hv_fit (by first | exact (Nat.le_refl 0) | omega))) (fun _ _ _ _ _ h => h.elim) (fun r36 y35 H locs hw hI => ?_)
          obtain ⟨hof, hw⟩ := hw
          refine hv_castC (cn := 9) E hK hI (by decide) q1627 hof dX4_rankOf_51 ?_
          obtain ⟨a38, ea38, hw⟩ := hw
          revert hl hw; subst ea38; intro hl hw
          obtain ⟨f39, ⟨fs, hfs, hfk⟩, hw⟩ := hw
          refine hv_getN (v := .int f39) E hK hI ciX11 1 (Nat.le_of_ble_eq_true rfl) q1003 (fun _ h => h) (Or.inl hfs) hfk dX4_rankOf_54 ?_
          exact hv_ireti E hr hlocks hI (Nat.le_refl 0) hw dX4_rankOf_57
  exact L5 n7 _ _ hi41 _ _ _ hI (lv_sub hl [1, 2, 0] rfl)
/-- CaseGrouper$Seen.topOf()I -/
def wp_X4_topOf (G : GP) (post : Int32 → HS → Prop) (y0 : HS) (a0 : Nat) : Prop := ∃ I1 : Nat → HS → Int32 → Int32 → Prop, (∃ n8, I1 n8 y0 (nI 0) (nI 0)) ∧ ∀ (n2 : Nat) (y3 : HS) (x6 : Int32) (x7 : Int32), I1 n2 y3 x6 x7 → ∃ f9, fR y3 a0 2 1 f9 ∧ ∃ a10, f9 = some a10 ∧ ∃ f11, fR y3 a10 17 4 f11 ∧ ∃ a12, f11 = some a12 ∧ (∃ fs15, rd G y3 a12 (ob 18 fs15)) ∧ wp_J2_size G (fun x14 y13 => (x14 ≤ x7 → post x6 y13) ∧ (¬ x14 ≤ x7 → ∃ f17, fR y13 a0 2 1 f17 ∧ ∃ a18, f17 = some a18 ∧ ∃ f19, fR y13 a18 17 4 f19 ∧ ∃ a20, f19 = some a20 ∧ (∃ fs23, rd G y13 a20 (ob 18 fs23)) ∧ wp_J2_get G (fun r22 y21 => isOf G y21 r22 21 ∧ ∃ a24, r22 = some a24 ∧ (∃ fs27, rd G y21 a24 (ob 21 fs27)) ∧ wp_J13_intValue G (fun x26 y25 => (∃ fs30, rd G y25 a0 (ob 2 fs30)) ∧ wp_X4_rankOf G (fun x29 y28 => ∀ x31, x31 = (if x6 < x29 then x29 else x6) → ∃ n32, n32 < n2 ∧ I1 n32 y28 x31 (x7 + nI 1)) y25 a0 x26) y21 a24) y13 a20 x7)) y3 a12
theorem hs_X4_topOf : yX4_topOf.cls ≠ "java/lang/invoke/MethodHandle" ∧ yX4_topOf.cls ≠ "java/lang/invoke/VarHandle" ∧ (parseMethodDescriptor yX4_topOf.desc).map (fun d => d.parameters.length) = some 0 := by decide +kernel
theorem hd_X4_topOf : yX4_topOf.cls = RX4 ∧ yX4_topOf.cls ≠ "java/lang/invoke/MethodHandle" ∧ yX4_topOf.cls ≠ "java/lang/invoke/VarHandle" ∧ (parseMethodDescriptor yX4_topOf.desc).map (fun d => d.parameters.length) = some 0 := by decide +kernel
set_option maxHeartbeats 4000000 in
theorem met_X4_topOf (l : Launch) (G : GP) (d : Nat) {post : Int32 → HS → Prop} {y0 : HS} {a0 : Nat} (hw : wp_X4_topOf G post y0 a0) : vx_Met l yX4_topOf (ws_ yX4_topOf cX4_topOf 3 (some .int)) (rmB (d + 4) 0) (hPc G y0 [va_rf (some a0)]) (hQi G y0 post) (hX G y0 (fun _ _ _ => False)) 0 (20 * 0) (HA y0) := by
  unfold wp_X4_topOf at hw
  refine hv_met (own := RX4) (by decide) rfl (Nat.le_of_ble_eq_true rfl) ?_
  intro p e s m args below meth c ls E hr hlocks hnm hE hK hI hl
  replace hl : lv_has ls 3 [(0, va_rf (some a0))] := hl
  refine lv_iconst (v := nI 0) E.1 E.2.1 dX4_topOf_0 rfl ?_
  refine lv_istore_n (lv' := [(1, .int (nI 0)), (0, va_rf (some a0))]) E.1 E.2.1 dX4_topOf_1 rfl hl (Nat.le_of_ble_eq_true rfl) (by first | rfl | decide | (simp [va_rf_cat, int_cat, long_cat]; done) | (simp [va_rf_cat, int_cat, long_cat]; decide)) (fun ls hl => ?_)
  refine lv_iconst (v := nI 0) E.1 E.2.1 dX4_topOf_2 rfl ?_
  refine lv_istore_n (lv' := [(2, .int (nI 0)), (1, .int (nI 0)), (0, va_rf (some a0))]) E.1 E.2.1 dX4_topOf_3 rfl hl (Nat.le_of_ble_eq_true rfl) (by first | rfl | decide | (simp [va_rf_cat, int_cat, long_cat]; done) | (simp [va_rf_cat, int_cat, long_cat]; decide)) (fun ls hl => ?_)
  obtain ⟨I1, ⟨n8, hi34⟩, hb33⟩ := hw
  have L5 : ∀ (n2 : Nat) (y3 : HS) (x6 : Int32) (x7 : Int32), I1 n2 y3 x6 x7 → ∀ (H : Heap) (locs : List Loc) (ls : Array Slot), HI G y0 y3 s H locs → lv_has ls 3 [(0, va_rf (some a0)), (1, .int (x6)), (2, .int (x7))] → W p l e (rmB (d + 4) 0) s m args below meth c H locs 0 (20 * 0) (vx_MQ below (hQi G y0 post) (hX G y0 (fun _ _ _ => False)) args s 0 (20 * 0) (HA y0)) (F0 m 4 ls []) := by
    intro n2
    induction n2 using Nat.strongRecOn with
    | _ n2 ih4 =>
      intro y3 x6 x7 hw H locs ls hI hl
      replace hw := hb33 n2 y3 x6 x7 hw
      refine lv_iload_n E.1 E.2.1 dX4_topOf_4 rfl (lv_at hl 2 rfl) ?_
      refine hv_aload_n (r := some a0) E.1 E.2.1 dX4_topOf_5 rfl (lv_at hl 0 rfl) ?_
      obtain ⟨f9, ⟨fs, hfs, hfk⟩, hw⟩ := hw
      refine hv_get (v := va_rf f9) E hK hI ciX4 1 (Nat.le_of_ble_eq_true rfl) q1389 (fun _ h => h) (Or.inl hfs) hfk dX4_topOf_6 ?_
      obtain ⟨a10, ea10, hw⟩ := hw
      revert hl hw; subst ea10; intro hl hw
      obtain ⟨f11, ⟨fs, hfs, hfk⟩, hw⟩ := hw
      refine hv_getN (v := va_rf f11) E hK hI ciX19 4 (Nat.le_of_ble_eq_true rfl) q1473 (fun _ h => h) (Or.inl hfs) hfk dX4_topOf_9 ?_
      obtain ⟨a12, ea12, hw⟩ := hw
      revert hl hw; subst ea12; intro hl hw
      obtain ⟨⟨fs15, hrv⟩, hw⟩ := hw
      have hq := hw
      clear hw
      refine hv_calli (u := 0) (B1 := 0) hI (vx_runV (As := []) (rest := [.int (x7)]) E (met_J2_size l G (d + 3) hq) (cwV 0 E.2.2.2.2 (lw_V q1328 q752 q753 q124 q754) rfl rfl rfl hd_J2_size (rm_ok (by omega) (by decide))) (hv_preV hK hI hrv rfl) rfl rfl hl.1 rfl (lv_room (by first | rfl | decide | (simp [va_rf_cat, int_cat, long_cat]; done) | (simp [va_rf_cat, int_cat, long_cat]; decide))) dX4_topOf_12 (hv_fit (by first | exact (Nat.le_refl 0) | omega))) (fun _ _ _ _ _ h => h.elim) (fun x14 y13 H locs hw hI => ?_)
      refine lv_icmp_ge (tgt := 50) E.1 E.2.1 dX4_topOf_15 (by decide) (fun c16 => ?_) (fun c16 => ?_)
      · replace hw := hw.1 (c16)
        refine lv_iload_n E.1 E.2.1 dX4_topOf_50 rfl (lv_at hl 1 rfl) ?_
        exact hv_ireti E hr hlocks hI (Nat.le_refl 0) hw dX4_topOf_51
      · replace hw := hw.2 (c16)
        refine lv_iload_n E.1 E.2.1 dX4_topOf_18 rfl (lv_at hl 1 rfl) ?_
        refine hv_aload_n (r := some a0) E.1 E.2.1 dX4_topOf_19 rfl (lv_at hl 0 rfl) ?_
        refine hv_aload_n (r := some a0) E.1 E.2.1 dX4_topOf_20 rfl (lv_at hl 0 rfl) ?_
        obtain ⟨f17, ⟨fs, hfs, hfk⟩, hw⟩ := hw
        refine hv_get (v := va_rf f17) E hK hI ciX4 1 (Nat.le_of_ble_eq_true rfl) q1389 (fun _ h => h) (Or.inl hfs) hfk dX4_topOf_21 ?_
        obtain ⟨a18, ea18, hw⟩ := hw
        revert hl hw; subst ea18; intro hl hw
        obtain ⟨f19, ⟨fs, hfs, hfk⟩, hw⟩ := hw
        refine hv_getN (v := va_rf f19) E hK hI ciX19 4 (Nat.le_of_ble_eq_true rfl) q1473 (fun _ h => h) (Or.inl hfs) hfk dX4_topOf_24 ?_
        refine lv_iload_n E.1 E.2.1 dX4_topOf_27 rfl (lv_at hl 2 rfl) ?_
        obtain ⟨a20, ea20, hw⟩ := hw
        revert hl hw; subst ea20; intro hl hw
        obtain ⟨⟨fs23, hrv⟩, hw⟩ := hw
        have hq := hw
        clear hw
        refine hv_callq (u := 0) (B1 := 0) hI (vx_runV (As := [.int (x7)]) (rest := [va_rf (some a0), .int (x6)]) E (met_J2_get l G (d + 1) hq) (cwV 1 E.2.2.2.2 (lw_V q1329 q785 q786 q124 q787) rfl rfl rfl hd_J2_get (rm_ok (by omega) (by decide))) (hv_preV hK hI hrv rfl) rfl rfl hl.1 rfl (lv_room (by first | rfl | decide | (simp [va_rf_cat, int_cat, long_cat]; done) | (simp [va_rf_cat, int_cat, long_cat]; decide))) dX4_topOf_28 (hv_fit (by first | exact (Nat.le_refl 0) | omega))) (fun _ _ _ _ _ h => h.elim) (fun r22 y21 H locs hw hI => ?_)
        obtain ⟨hof, hw⟩ := hw
        refine hv_castC (cn := 21) E hK hI (by decide) q1330 hof dX4_topOf_31 ?_
        obtain ⟨a24, ea24, hw⟩ := hw
        revert hl hw; subst ea24; intro hl hw
        obtain ⟨⟨fs27, hrv⟩, hw⟩ := hw
        have hq := hw
        clear hw
        refine hv_calli (u := 0) (B1 := 0) hI (vx_runV (As := []) (rest := [va_rf (some a0), .int (x6)]) E (met_J13_intValue l G (d + 3) hq) (cwV 0 E.2.2.2.2 (lw_V q1331 q993 q994 q141 q995) rfl rfl rfl hd_J13_intValue (rm_ok (by omega) (by decide))) (hv_preV hK hI hrv rfl) rfl rfl hl.1 rfl (lv_room (by first | rfl | decide | (simp [va_rf_cat, int_cat, long_cat]; done) | (simp [va_rf_cat, int_cat, long_cat]; decide))) dX4_topOf_34 (hv_fit (by first | exact (Nat.le_refl 0) | omega))) (fun _ _ _ _ _ h => h.elim) (fun x26 y25 H locs hw hI => ?_)
        obtain ⟨⟨fs30, hrv⟩, hw⟩ := hw
        have hq := hw
        clear hw
        refine hv_calli (u := 0) (B1 := 0) hI (vx_runV (As := [.int (x26)]) (rest := [.int (x6)]) E (met_X4_rankOf l G (d) hq) (cwV 1 E.2.2.2.2 (lw_V q1623 q1625 qs49 q127 q1626) rfl rfl rfl hd_X4_rankOf (rm_ok (by omega) (by decide))) (hv_preV hK hI hrv rfl) rfl rfl hl.1 rfl (lv_room (by first | rfl | decide | (simp [va_rf_cat, int_cat, long_cat]; done) | (simp [va_rf_cat, int_cat, long_cat]; decide))) dX4_topOf_37 (hv_fit (by first | exact (Nat.le_refl 0) | omega))) (fun _ _ _ _ _ h => h.elim) (fun x29 y28 H locs hw hI => ?_)
        refine va_mmax (rest := []) E.1 E.2.1 (by rw [E.2.2.1]; exact hl.1.symm) E.2.2.2.1 (E.2.2.2.2 _ q1628) (E.2.2.2.2 _ q393) (E.2.2.2.2 _ q135) (E.2.2.2.2 _ q394) (mm_fr _) (mm_lo _ (by first | exact Nat.zero_le _ | decide | (simp [va_rf_cat, int_cat, long_cat]; done) | (simp [va_rf_cat, int_cat, long_cat]; decide))) (by first | exact hu | exact Nat.le_refl 0) (mm_sl (by first | exact hu | exact Nat.le_refl 0)) dX4_topOf_40 ?_
        refine lv_topi (fun x31 ex31 => ?_)
        replace hw := hw x31 ex31
        refine lv_istore_n (lv' := [(1, .int (x31)), (0, va_rf (some a0)), (2, .int (x7))]) E.1 E.2.1 dX4_topOf_43 rfl hl (Nat.le_of_ble_eq_true rfl) (by first | rfl | decide | (simp [va_rf_cat, int_cat, long_cat]; done) | (simp [va_rf_cat, int_cat, long_cat]; decide)) (fun ls hl => ?_)
        refine lv_iinc (k := 2) (v := x7 + nI 1) (lv' := [(2, .int (x7 + nI 1)), (1, .int (x31)), (0, va_rf (some a0))]) E.1 E.2.1 dX4_topOf_44 hl rfl rfl (Nat.le_of_ble_eq_true rfl) (by first | rfl | decide | (simp [va_rf_cat, int_cat, long_cat]; done) | (simp [va_rf_cat, int_cat, long_cat]; decide)) (fun ls hl => ?_)
        refine lv_goto (tgt := 4) E.1 E.2.1 dX4_topOf_47 (by decide) ?_
        obtain ⟨n32, hnn32, hin32⟩ := hw
        exact ih4 n32 hnn32 _ _ _ hin32 _ _ _ hI (lv_sub hl [2, 1, 0] rfl)
  exact L5 n8 _ _ _ hi34 _ _ _ hI (lv_sub hl [2, 1, 0] rfl)
/-- CaseGrouper$Seen.looks(LCaseGrouper$Edition;LCaseGrouper$Stay;)V -/
def wp_X4_looks (G : GP) (post : HS → Prop) (y0 : HS) (a0 : Nat) (p1 : Option Nat) (p2 : Option Nat) : Prop := ∃ fs2, y0.1 a0 = some (ob 2 fs2) ∧ 0 < fs2.length ∧ ∀ y1, y1 = hput y0 a0 (ob 2 (fs2.set 0 (va_rf p1))) → ∃ fs4, y1.1 a0 = some (ob 2 fs4) ∧ 1 < fs4.length ∧ ∀ y3, y3 = hput y1 a0 (ob 2 (fs4.set 1 (va_rf p2))) → ∃ fs6, y3.1 a0 = some (ob 2 fs6) ∧ 6 < fs6.length ∧ ∀ y5, y5 = hput y3 a0 (ob 2 (fs6.set 6 (.int (nI 0)))) → ∃ fs8, y5.1 a0 = some (ob 2 fs8) ∧ 7 < fs8.length ∧ ∀ y7, y7 = hput y5 a0 (ob 2 (fs8.set 7 (.long (0)))) → (∃ fs11, rd G y7 a0 (ob 2 fs11)) ∧ wp_X4_topOf G (fun x10 y9 => ∃ fs13, y9.1 a0 = some (ob 2 fs13) ∧ 3 < fs13.length ∧ ∀ y12, y12 = hput y9 a0 (ob 2 (fs13.set 3 (.int (x10)))) → (∃ fs16, rd G y12 a0 (ob 2 fs16)) ∧ wp_X4_levelOf G (fun x15 y14 => ∃ fs18, y14.1 a0 = some (ob 2 fs18) ∧ 4 < fs18.length ∧ ∀ y17, y17 = hput y14 a0 (ob 2 (fs18.set 4 (.int (x15)))) → (∃ fs21, rd G y17 a0 (ob 2 fs21)) ∧ wp_X4_chapterOf G (fun x20 y19 => ∃ fs23, y19.1 a0 = some (ob 2 fs23) ∧ 2 < fs23.length ∧ ∀ y22, y22 = hput y19 a0 (ob 2 (fs23.set 2 (.int (x20)))) → ∃ f24, fI y22 a0 2 2 f24 ∧ (0 ≤ f24 → ∃ a26, p1 = some a26 ∧ ∃ f27, fR y22 a26 1 0 f27 ∧ ∃ f28, fI y22 a0 2 2 f28 ∧ ∃ a29, f27 = some a29 ∧ (∃ fs32, rd G y22 a29 (ob 18 fs32)) ∧ wp_J2_get G (fun r31 y30 => isOf G y30 r31 7 ∧ ∃ a33, r31 = some a33 ∧ ∃ f34, fR y30 a33 7 2 f34 ∧ (∃ fs37, rd G y30 a0 (ob 2 fs37)) ∧ wp_goes2 G d_goes2 (fun r36 y35 => ∃ fs39, y35.1 a0 = some (ob 2 fs39) ∧ 5 < fs39.length ∧ ∀ y38, y38 = hput y35 a0 (ob 2 (fs39.set 5 (va_rf r36))) → post y38) y30 a0 f34) y22 a29 f28) ∧ (¬ 0 ≤ f24 → ∃ fs41, y22.1 a0 = some (ob 2 fs41) ∧ 5 < fs41.length ∧ ∀ y40, y40 = hput y22 a0 (ob 2 (fs41.set 5 (va_rf none))) → post y40)) y17 a0) y12 a0) y7 a0
theorem hs_X4_looks : yX4_looks.cls ≠ "java/lang/invoke/MethodHandle" ∧ yX4_looks.cls ≠ "java/lang/invoke/VarHandle" ∧ (parseMethodDescriptor yX4_looks.desc).map (fun d => d.parameters.length) = some 2 := by decide +kernel
theorem hd_X4_looks : yX4_looks.cls = RX4 ∧ yX4_looks.cls ≠ "java/lang/invoke/MethodHandle" ∧ yX4_looks.cls ≠ "java/lang/invoke/VarHandle" ∧ (parseMethodDescriptor yX4_looks.desc).map (fun d => d.parameters.length) = some 2 := by decide +kernel
set_option maxHeartbeats 4000000 in
theorem met_X4_looks (l : Launch) (G : GP) (d : Nat) {post : HS → Prop} {y0 : HS} {a0 : Nat} {p1 : Option Nat} {p2 : Option Nat} (hw : wp_X4_looks G post y0 a0 p1 p2) : vx_Met l yX4_looks (ws_ yX4_looks cX4_looks 3 none) (rmB (d + 60) 0) (hPc G y0 [va_rf (some a0), va_rf p1, va_rf p2]) (hQv G y0 post) (hX G y0 (fun _ _ _ => False)) 0 (20 * 0) (HA y0) := by
  have hD_goes2 : d_goes2 = 12 := rfl
  unfold wp_X4_looks at hw
  refine hv_met (own := RX4) (by decide) rfl (by simp [lg_sl, va_rf_cat, int_cat, long_cat]) ?_
  intro p e s m args below meth c ls E hr hlocks hnm hE hK hI hl
  replace hl : lv_has ls 3 [(0, va_rf (some a0)), (1, va_rf p1), (2, va_rf p2)] := by simpa [lv_args, va_rf_cat, int_cat, long_cat] using hl
  refine hv_aload_n (r := some a0) E.1 E.2.1 dX4_looks_0 rfl (lv_at hl 0 rfl) ?_
  refine hv_aload_n (r := p1) E.1 E.2.1 dX4_looks_1 rfl (lv_at hl 1 rfl) ?_
  obtain ⟨fs2, hfs, hln, hw⟩ := hw
  refine hv_put (v := va_rf p1) E hK hI ciX4 0 (Nat.le_of_ble_eq_true rfl) q1388 (fun _ h => h) rfl (rf_nar _ _ rfl) (rf_fit _ _ rfl) hfs hln dX4_looks_2 (fun H locs hI => ?_)
  obtain ⟨y1, ey1⟩ : ∃ w, w = hput y0 a0 (ob 2 (fs2.set 0 (va_rf p1))) := ⟨_, rfl⟩
  rw [← ey1] at hI
  replace hw := hw y1 ey1
  refine hv_aload_n (r := some a0) E.1 E.2.1 dX4_looks_5 rfl (lv_at hl 0 rfl) ?_
  refine hv_aload_n (r := p2) E.1 E.2.1 dX4_looks_6 rfl (lv_at hl 2 rfl) ?_
  obtain ⟨fs4, hfs, hln, hw⟩ := hw
  refine hv_put (v := va_rf p2) E hK hI ciX4 1 (Nat.le_of_ble_eq_true rfl) q1389 (fun _ h => h) rfl (rf_nar _ _ rfl) (rf_fit _ _ rfl) hfs hln dX4_looks_7 (fun H locs hI => ?_)
  obtain ⟨y3, ey3⟩ : ∃ w, w = hput y1 a0 (ob 2 (fs4.set 1 (va_rf p2))) := ⟨_, rfl⟩
  rw [← ey3] at hI
  replace hw := hw y3 ey3
  refine hv_aload_n (r := some a0) E.1 E.2.1 dX4_looks_10 rfl (lv_at hl 0 rfl) ?_
  refine lv_iconst (v := nI 0) E.1 E.2.1 dX4_looks_11 rfl ?_
  obtain ⟨fs6, hfs, hln, hw⟩ := hw
  refine hv_put (v := .int (nI 0)) E hK hI ciX4 6 (Nat.le_of_ble_eq_true rfl) q1398 (fun _ h => h) rfl rfl rfl hfs hln dX4_looks_12 (fun H locs hI => ?_)
  obtain ⟨y5, ey5⟩ : ∃ w, w = hput y3 a0 (ob 2 (fs6.set 6 (.int (nI 0)))) := ⟨_, rfl⟩
  rw [← ey5] at hI
  replace hw := hw y5 ey5
  refine hv_aload_n (r := some a0) E.1 E.2.1 dX4_looks_15 rfl (lv_at hl 0 rfl) ?_
  refine lv_lconst (v := 0) E.1 E.2.1 dX4_looks_16 rfl ?_
  obtain ⟨fs8, hfs, hln, hw⟩ := hw
  refine hv_put (v := .long (0)) E hK hI ciX4 7 (Nat.le_of_ble_eq_true rfl) q1400 (fun _ h => h) rfl rfl rfl hfs hln dX4_looks_17 (fun H locs hI => ?_)
  obtain ⟨y7, ey7⟩ : ∃ w, w = hput y5 a0 (ob 2 (fs8.set 7 (.long (0)))) := ⟨_, rfl⟩
  rw [← ey7] at hI
  replace hw := hw y7 ey7
  refine hv_aload_n (r := some a0) E.1 E.2.1 dX4_looks_20 rfl (lv_at hl 0 rfl) ?_
  refine hv_aload_n (r := some a0) E.1 E.2.1 dX4_looks_21 rfl (lv_at hl 0 rfl) ?_
  obtain ⟨⟨fs11, hrv⟩, hw⟩ := hw
  have hq := hw
  clear hw
  refine hv_calli (u := 0) (B1 := 0) hI (vx_runV (As := []) (rest := [va_rf (some a0)]) E (met_X4_topOf l G (d + 55) hq) (cwV 0 E.2.2.2.2 (lw_V q1619 q1621 qs48 q127 q1622) rfl rfl rfl hd_X4_topOf (rm_ok (by omega) (by decide))) (hv_preV hK hI hrv rfl) rfl rfl hl.1 rfl (lv_room (by first | rfl | decide | (simp [va_rf_cat, int_cat, long_cat]; done) | (simp [va_rf_cat, int_cat, long_cat]; decide))) dX4_looks_22 (hv_fit (by first | exact (Nat.le_refl 0) | omega))) (fun _ _ _ _ _ h => h.elim) (fun x10 y9 H locs hw hI => ?_)
  obtain ⟨fs13, hfs, hln, hw⟩ := hw
  refine hv_put (v := .int (x10)) E hK hI ciX4 3 (Nat.le_of_ble_eq_true rfl) q1392 (fun _ h => h) rfl rfl rfl hfs hln dX4_looks_25 (fun H locs hI => ?_)
  obtain ⟨y12, ey12⟩ : ∃ w, w = hput y9 a0 (ob 2 (fs13.set 3 (.int (x10)))) := ⟨_, rfl⟩
  rw [← ey12] at hI
  replace hw := hw y12 ey12
  refine hv_aload_n (r := some a0) E.1 E.2.1 dX4_looks_28 rfl (lv_at hl 0 rfl) ?_
  refine hv_aload_n (r := some a0) E.1 E.2.1 dX4_looks_29 rfl (lv_at hl 0 rfl) ?_
  obtain ⟨⟨fs16, hrv⟩, hw⟩ := hw
  have hq := hw
  clear hw
  refine hv_calli (u := 0) (B1 := 0) hI (vx_runV (As := []) (rest := [va_rf (some a0)]) E (met_X4_levelOf l G (d + 54) hq) (cwV 0 E.2.2.2.2 (lw_V q1629 q1631 qs50 q127 q1632) rfl rfl rfl hd_X4_levelOf (rm_ok (by omega) (by decide))) (hv_preV hK hI hrv rfl) rfl rfl hl.1 rfl (lv_room (by first | rfl | decide | (simp [va_rf_cat, int_cat, long_cat]; done) | (simp [va_rf_cat, int_cat, long_cat]; decide))) dX4_looks_30 (hv_fit (by first | exact (Nat.le_refl 0) | omega))) (fun _ _ _ _ _ h => h.elim) (fun x15 y14 H locs hw hI => ?_)
  obtain ⟨fs18, hfs, hln, hw⟩ := hw
  refine hv_put (v := .int (x15)) E hK hI ciX4 4 (Nat.le_of_ble_eq_true rfl) q1394 (fun _ h => h) rfl rfl rfl hfs hln dX4_looks_33 (fun H locs hI => ?_)
  obtain ⟨y17, ey17⟩ : ∃ w, w = hput y14 a0 (ob 2 (fs18.set 4 (.int (x15)))) := ⟨_, rfl⟩
  rw [← ey17] at hI
  replace hw := hw y17 ey17
  refine hv_aload_n (r := some a0) E.1 E.2.1 dX4_looks_36 rfl (lv_at hl 0 rfl) ?_
  refine hv_aload_n (r := some a0) E.1 E.2.1 dX4_looks_37 rfl (lv_at hl 0 rfl) ?_
  obtain ⟨⟨fs21, hrv⟩, hw⟩ := hw
  have hq := hw
  clear hw
  refine hv_calli (u := 0) (B1 := 0) hI (vx_runV (As := []) (rest := [va_rf (some a0)]) E (met_X4_chapterOf l G (d + 55) hq) (cwV 0 E.2.2.2.2 (lw_V q1647 q1649 qs51 q127 q1650) rfl rfl rfl hd_X4_chapterOf (rm_ok (by omega) (by decide))) (hv_preV hK hI hrv rfl) rfl rfl hl.1 rfl (lv_room (by first | rfl | decide | (simp [va_rf_cat, int_cat, long_cat]; done) | (simp [va_rf_cat, int_cat, long_cat]; decide))) dX4_looks_38 (hv_fit (by first | exact (Nat.le_refl 0) | omega))) (fun _ _ _ _ _ h => h.elim) (fun x20 y19 H locs hw hI => ?_)
  obtain ⟨fs23, hfs, hln, hw⟩ := hw
  refine hv_put (v := .int (x20)) E hK hI ciX4 2 (Nat.le_of_ble_eq_true rfl) q1390 (fun _ h => h) rfl rfl rfl hfs hln dX4_looks_41 (fun H locs hI => ?_)
  obtain ⟨y22, ey22⟩ : ∃ w, w = hput y19 a0 (ob 2 (fs23.set 2 (.int (x20)))) := ⟨_, rfl⟩
  rw [← ey22] at hI
  replace hw := hw y22 ey22
  refine hv_aload_n (r := some a0) E.1 E.2.1 dX4_looks_44 rfl (lv_at hl 0 rfl) ?_
  refine hv_aload_n (r := some a0) E.1 E.2.1 dX4_looks_45 rfl (lv_at hl 0 rfl) ?_
  obtain ⟨f24, ⟨fs, hfs, hfk⟩, hw⟩ := hw
  refine hv_get (v := .int f24) E hK hI ciX4 2 (Nat.le_of_ble_eq_true rfl) q1390 (fun _ h => h) (Or.inl hfs) hfk dX4_looks_46 ?_
  refine lv_if_ge (tgt := 56) E.1 E.2.1 dX4_looks_49 (by decide) (fun c25 => ?_) (fun c25 => ?_)
  · replace hw := hw.1 (c25)
    refine hv_aload_n (r := some a0) E.1 E.2.1 dX4_looks_56 rfl (lv_at hl 0 rfl) ?_
    refine hv_aload_n (r := p1) E.1 E.2.1 dX4_looks_57 rfl (lv_at hl 1 rfl) ?_
    obtain ⟨a26, ea26, hw⟩ := hw
    revert hl hw; subst ea26; intro hl hw
    obtain ⟨f27, ⟨fs, hfs, hfk⟩, hw⟩ := hw
    refine hv_getN (v := va_rf f27) E hK hI ciX2 0 (Nat.le_of_ble_eq_true rfl) q231 (fun _ h => h) (Or.inl hfs) hfk dX4_looks_58 ?_
    refine hv_aload_n (r := some a0) E.1 E.2.1 dX4_looks_61 rfl (lv_at hl 0 rfl) ?_
    obtain ⟨f28, ⟨fs, hfs, hfk⟩, hw⟩ := hw
    refine hv_get (v := .int f28) E hK hI ciX4 2 (Nat.le_of_ble_eq_true rfl) q1390 (fun _ h => h) (Or.inl hfs) hfk dX4_looks_62 ?_
    obtain ⟨a29, ea29, hw⟩ := hw
    revert hl hw; subst ea29; intro hl hw
    obtain ⟨⟨fs32, hrv⟩, hw⟩ := hw
    have hq := hw
    clear hw
    refine hv_callq (u := 0) (B1 := 0) hI (vx_runV (As := [.int (f28)]) (rest := [va_rf (some a0), va_rf (some a0)]) E (met_J2_get l G (d + 57) hq) (cwV 1 E.2.2.2.2 (lw_V q1329 q785 q786 q124 q787) rfl rfl rfl hd_J2_get (rm_ok (by omega) (by decide))) (hv_preV hK hI hrv rfl) rfl rfl hl.1 rfl (lv_room (by first | rfl | decide | (simp [va_rf_cat, int_cat, long_cat]; done) | (simp [va_rf_cat, int_cat, long_cat]; decide))) dX4_looks_65 (hv_fit (by first | exact (Nat.le_refl 0) | omega))) (fun _ _ _ _ _ h => h.elim) (fun r31 y30 H locs hw hI => ?_)
    obtain ⟨hof, hw⟩ := hw
    refine hv_castC (cn := 7) E hK hI (by decide) q1651 hof dX4_looks_68 ?_
    obtain ⟨a33, ea33, hw⟩ := hw
    revert hl hw; subst ea33; intro hl hw
    obtain ⟨f34, ⟨fs, hfs, hfk⟩, hw⟩ := hw
    refine hv_getN (v := va_rf f34) E hK hI ciX9 2 (Nat.le_of_ble_eq_true rfl) q811 (fun _ h => h) (Or.inl hfs) hfk dX4_looks_71 ?_
    obtain ⟨⟨fs37, hrv⟩, hw⟩ := hw
    have hq := hw
    clear hw
    refine hv_callq (u := 0) (B1 := 0) hI (vx_runU (C := "CaseGrouper$Seen") (owner := "CaseGrouper$Facts") (x := ⟨"CaseGrouper$Seen", "goes", "(Ljava/lang/Object;)LCaseGrouper$Leaf;"⟩) (As := [va_rf f34]) (rest := [va_rf (some a0)]) E (met_X3_goes_r2 l G (d) d_goes2 hq) (cw_any 1 E.2.2.2.2 (lw_meth q1294) rfl rfl q1652 q1653 (E.2.2.2.2 _ q1654) q1293 q126 (va_Decl.of (E.2.2.2.2 _ q1293) (E.2.2.2.2 _ q1294)) (by decide +kernel) (rm_ok (by omega) (by decide))) (hv_preV hK hI hrv rfl) rfl rfl hl.1 rfl (lv_room (by first | rfl | decide | (simp [va_rf_cat, int_cat, long_cat]; done) | (simp [va_rf_cat, int_cat, long_cat]; decide))) dX4_looks_74 (hv_fit (by first | exact (Nat.le_refl 0) | omega))) (fun _ _ _ _ _ h => h.elim) (fun r36 y35 H locs hw hI => ?_)
    obtain ⟨fs39, hfs, hln, hw⟩ := hw
    refine hv_put (v := va_rf r36) E hK hI ciX4 5 (Nat.le_of_ble_eq_true rfl) q1396 (fun _ h => h) rfl (rf_nar _ _ rfl) (rf_fit _ _ rfl) hfs hln dX4_looks_77 (fun H locs hI => ?_)
    obtain ⟨y38, ey38⟩ : ∃ w, w = hput y35 a0 (ob 2 (fs39.set 5 (va_rf r36))) := ⟨_, rfl⟩
    rw [← ey38] at hI
    replace hw := hw y38 ey38
    exact hv_vret E hr hlocks hI (Nat.le_refl 0) hw dX4_looks_80
  · replace hw := hw.2 (c25)
    refine lv_null E.1 E.2.1 dX4_looks_52 ?_
    refine lv_goto (tgt := 77) E.1 E.2.1 dX4_looks_53 (by decide) ?_
    obtain ⟨fs41, hfs, hln, hw⟩ := hw
    refine hv_put (v := va_rf none) E hK hI ciX4 5 (Nat.le_of_ble_eq_true rfl) q1396 (fun _ h => h) rfl (rf_nar _ _ rfl) (rf_fit _ _ rfl) hfs hln dX4_looks_77 (fun H locs hI => ?_)
    obtain ⟨y40, ey40⟩ : ∃ w, w = hput y22 a0 (ob 2 (fs41.set 5 (va_rf none))) := ⟨_, rfl⟩
    rw [← ey40] at hI
    replace hw := hw y40 ey40
    exact hv_vret E hr hlocks hI (Nat.le_refl 0) hw dX4_looks_80
/-- CaseGrouper$Seen.cls()I -/
def wp_X4_cls (G : GP) (post : Int32 → HS → Prop) (y0 : HS) (a0 : Nat) : Prop := ∃ f1, fR y0 a0 2 5 f1 ∧ (f1 = none → post ((-1)) y0) ∧ (∀ a3, f1 = some a3 → ∃ f4, fR y0 a0 2 5 f4 ∧ ∃ a5, f4 = some a5 ∧ ∃ f6, fI y0 a5 11 0 f6 ∧ post f6 y0)
theorem hs_X4_cls : yX4_cls.cls ≠ "java/lang/invoke/MethodHandle" ∧ yX4_cls.cls ≠ "java/lang/invoke/VarHandle" ∧ (parseMethodDescriptor yX4_cls.desc).map (fun d => d.parameters.length) = some 0 := by decide +kernel
theorem hd_X4_cls : yX4_cls.cls = RX4 ∧ yX4_cls.cls ≠ "java/lang/invoke/MethodHandle" ∧ yX4_cls.cls ≠ "java/lang/invoke/VarHandle" ∧ (parseMethodDescriptor yX4_cls.desc).map (fun d => d.parameters.length) = some 0 := by decide +kernel
set_option maxHeartbeats 4000000 in
theorem met_X4_cls (l : Launch) (G : GP) (d : Nat) {post : Int32 → HS → Prop} {y0 : HS} {a0 : Nat} (hw : wp_X4_cls G post y0 a0) : vx_Met l yX4_cls (ws_ yX4_cls cX4_cls 1 (some .int)) (rmB (d + 0) 0) (hPc G y0 [va_rf (some a0)]) (hQi G y0 post) (hX G y0 (fun _ _ _ => False)) 0 (20 * 0) (HA y0) := by
  unfold wp_X4_cls at hw
  refine hv_met (own := RX4) (by decide) rfl (Nat.le_of_ble_eq_true rfl) ?_
  intro p e s m args below meth c ls E hr hlocks hnm hE hK hI hl
  replace hl : lv_has ls 1 [(0, va_rf (some a0))] := hl
  refine hv_aload_n (r := some a0) E.1 E.2.1 dX4_cls_0 rfl (lv_at hl 0 rfl) ?_
  obtain ⟨f1, ⟨fs, hfs, hfk⟩, hw⟩ := hw
  refine hv_get (v := va_rf f1) E hK hI ciX4 5 (Nat.le_of_ble_eq_true rfl) q1396 (fun _ h => h) (Or.inl hfs) hfk dX4_cls_1 ?_
  refine hv_ifnonnull (r := f1) (tgt := 11) E.1 E.2.1 dX4_cls_4 (by decide) (fun a3 c2 => ?_) (fun c2 => ?_)
  · replace hw := hw.2 a3 c2
    revert hl hw; subst c2; intro hl hw
    refine hv_aload_n (r := some a0) E.1 E.2.1 dX4_cls_11 rfl (lv_at hl 0 rfl) ?_
    obtain ⟨f4, ⟨fs, hfs, hfk⟩, hw⟩ := hw
    refine hv_get (v := va_rf f4) E hK hI ciX4 5 (Nat.le_of_ble_eq_true rfl) q1396 (fun _ h => h) (Or.inl hfs) hfk dX4_cls_12 ?_
    obtain ⟨a5, ea5, hw⟩ := hw
    revert hl hw; subst ea5; intro hl hw
    obtain ⟨f6, ⟨fs, hfs, hfk⟩, hw⟩ := hw
    refine hv_getN (v := .int f6) E hK hI ciX13 0 (Nat.le_of_ble_eq_true rfl) q1090 (fun _ h => h) (Or.inl hfs) hfk dX4_cls_15 ?_
    exact hv_ireti E hr hlocks hI (Nat.le_refl 0) hw dX4_cls_18
  · replace hw := hw.1 c2
    refine lv_iconst (v := (-1)) E.1 E.2.1 dX4_cls_7 rfl ?_
    refine lv_goto (tgt := 18) E.1 E.2.1 dX4_cls_8 (by decide) ?_
    exact hv_ireti E hr hlocks hI (Nat.le_refl 0) hw dX4_cls_18
/-- CaseGrouper$Seen.weight()I -/
def wp_X4_weight (G : GP) (post : Int32 → HS → Prop) (y0 : HS) (a0 : Nat) : Prop := ∃ f1, fR y0 a0 2 5 f1 ∧ (f1 = none → post (nI 0) y0) ∧ (∀ a3, f1 = some a3 → ∃ f4, fR y0 a0 2 0 f4 ∧ ∃ a5, f4 = some a5 ∧ ∃ f6, fR y0 a5 1 6 f6 ∧ ∃ f7, fR y0 a0 2 5 f7 ∧ ∃ a8, f7 = some a8 ∧ ∃ f9, fI y0 a8 11 0 f9 ∧ ∃ a10, f6 = some a10 ∧ ∃ (n11 : Nat) (g12 : Nat → Int32), rd G y0 a10 (ai 5 n11 g12) ∧ vp_in f9 n11 ∧ post (g12 f9.toNatClampNeg) y0)
theorem hs_X4_weight : yX4_weight.cls ≠ "java/lang/invoke/MethodHandle" ∧ yX4_weight.cls ≠ "java/lang/invoke/VarHandle" ∧ (parseMethodDescriptor yX4_weight.desc).map (fun d => d.parameters.length) = some 0 := by decide +kernel
theorem hd_X4_weight : yX4_weight.cls = RX4 ∧ yX4_weight.cls ≠ "java/lang/invoke/MethodHandle" ∧ yX4_weight.cls ≠ "java/lang/invoke/VarHandle" ∧ (parseMethodDescriptor yX4_weight.desc).map (fun d => d.parameters.length) = some 0 := by decide +kernel
set_option maxHeartbeats 4000000 in
theorem met_X4_weight (l : Launch) (G : GP) (d : Nat) {post : Int32 → HS → Prop} {y0 : HS} {a0 : Nat} (hw : wp_X4_weight G post y0 a0) : vx_Met l yX4_weight (ws_ yX4_weight cX4_weight 1 (some .int)) (rmB (d + 0) 0) (hPc G y0 [va_rf (some a0)]) (hQi G y0 post) (hX G y0 (fun _ _ _ => False)) 0 (20 * 0) (HA y0) := by
  unfold wp_X4_weight at hw
  refine hv_met (own := RX4) (by decide) rfl (Nat.le_of_ble_eq_true rfl) ?_
  intro p e s m args below meth c ls E hr hlocks hnm hE hK hI hl
  replace hl : lv_has ls 1 [(0, va_rf (some a0))] := hl
  refine hv_aload_n (r := some a0) E.1 E.2.1 dX4_weight_0 rfl (lv_at hl 0 rfl) ?_
  obtain ⟨f1, ⟨fs, hfs, hfk⟩, hw⟩ := hw
  refine hv_get (v := va_rf f1) E hK hI ciX4 5 (Nat.le_of_ble_eq_true rfl) q1396 (fun _ h => h) (Or.inl hfs) hfk dX4_weight_1 ?_
  refine hv_ifnonnull (r := f1) (tgt := 11) E.1 E.2.1 dX4_weight_4 (by decide) (fun a3 c2 => ?_) (fun c2 => ?_)
  · replace hw := hw.2 a3 c2
    revert hl hw; subst c2; intro hl hw
    refine hv_aload_n (r := some a0) E.1 E.2.1 dX4_weight_11 rfl (lv_at hl 0 rfl) ?_
    obtain ⟨f4, ⟨fs, hfs, hfk⟩, hw⟩ := hw
    refine hv_get (v := va_rf f4) E hK hI ciX4 0 (Nat.le_of_ble_eq_true rfl) q1388 (fun _ h => h) (Or.inl hfs) hfk dX4_weight_12 ?_
    obtain ⟨a5, ea5, hw⟩ := hw
    revert hl hw; subst ea5; intro hl hw
    obtain ⟨f6, ⟨fs, hfs, hfk⟩, hw⟩ := hw
    refine hv_getN (v := va_rf f6) E hK hI ciX2 6 (Nat.le_of_ble_eq_true rfl) q249 (fun _ h => h) (Or.inl hfs) hfk dX4_weight_15 ?_
    refine hv_aload_n (r := some a0) E.1 E.2.1 dX4_weight_18 rfl (lv_at hl 0 rfl) ?_
    obtain ⟨f7, ⟨fs, hfs, hfk⟩, hw⟩ := hw
    refine hv_get (v := va_rf f7) E hK hI ciX4 5 (Nat.le_of_ble_eq_true rfl) q1396 (fun _ h => h) (Or.inl hfs) hfk dX4_weight_19 ?_
    obtain ⟨a8, ea8, hw⟩ := hw
    revert hl hw; subst ea8; intro hl hw
    obtain ⟨f9, ⟨fs, hfs, hfk⟩, hw⟩ := hw
    refine hv_getN (v := .int f9) E hK hI ciX13 0 (Nat.le_of_ble_eq_true rfl) q1090 (fun _ h => h) (Or.inl hfs) hfk dX4_weight_22 ?_
    obtain ⟨a10, ea10, hw⟩ := hw
    revert hl hw; subst ea10; intro hl hw
    obtain ⟨n11, g12, hra, hin, hw⟩ := hw
    refine hv_sald E hK hI hra hin dX4_weight_25 ?_
    exact hv_ireti E hr hlocks hI (Nat.le_refl 0) hw dX4_weight_26
  · replace hw := hw.1 c2
    refine lv_iconst (v := nI 0) E.1 E.2.1 dX4_weight_7 rfl ?_
    refine lv_goto (tgt := 26) E.1 E.2.1 dX4_weight_8 (by decide) ?_
    exact hv_ireti E hr hlocks hI (Nat.le_refl 0) hw dX4_weight_26
/-- CaseGrouper$Edition.<init>()V -/
def wp_X2_init (G : GP) (B : Nat) (post : HS → Prop) (y0 : HS) (a0 : Nat) : Prop := 0 + 1 ≤ B ∧ ∀ a2, a2 = y0.2 → ∀ y1, y1 = hnew y0 (ob 18 [.int 0, va_rf none, .int 0]) → wp_J2_init G (fun y3 => ∃ fs5, y3.1 a0 = some (ob 1 fs5) ∧ 0 < fs5.length ∧ ∀ y4, y4 = hput y3 a0 (ob 1 (fs5.set 0 (va_rf (some a2)))) → (0 + 1) + 1 ≤ B ∧ ∀ a7, a7 = y4.2 → ∀ y6, y6 = hnew y4 (ob 18 [.int 0, va_rf none, .int 0]) → wp_J2_init G (fun y8 => ∃ fs10, y8.1 a0 = some (ob 1 fs10) ∧ 1 < fs10.length ∧ ∀ y9, y9 = hput y8 a0 (ob 1 (fs10.set 1 (va_rf (some a7)))) → ((0 + 1) + 1) + 1 ≤ B ∧ ∀ a12, a12 = y9.2 → ∀ y11, y11 = hnew y9 (ob 18 [.int 0, va_rf none, .int 0]) → wp_J2_init G (fun y13 => ∃ fs15, y13.1 a0 = some (ob 1 fs15) ∧ 2 < fs15.length ∧ ∀ y14, y14 = hput y13 a0 (ob 1 (fs15.set 2 (va_rf (some a12)))) → (((0 + 1) + 1) + 1) + 1 ≤ B ∧ ∀ a17, a17 = y14.2 → ∀ y16, y16 = hnew y14 (ob 18 [.int 0, va_rf none, .int 0]) → wp_J2_init G (fun y18 => ∃ fs20, y18.1 a0 = some (ob 1 fs20) ∧ 3 < fs20.length ∧ ∀ y19, y19 = hput y18 a0 (ob 1 (fs20.set 3 (va_rf (some a17)))) → ((((0 + 1) + 1) + 1) + 1) + 1 ≤ B ∧ ∀ a22, a22 = y19.2 → ∀ y21, y21 = hnew y19 (ob 18 [.int 0, va_rf none, .int 0]) → wp_J2_init G (fun y23 => ∃ fs25, y23.1 a0 = some (ob 1 fs25) ∧ 4 < fs25.length ∧ ∀ y24, y24 = hput y23 a0 (ob 1 (fs25.set 4 (va_rf (some a22)))) → (((((0 + 1) + 1) + 1) + 1) + 1) + (1 + 16 / 20) ≤ B ∧ ∀ a27, a27 = y24.2 → ∀ y26, y26 = hnew y24 (ar 7 16 (fun _ => none)) → ∃ fs29, y26.1 a0 = some (ob 1 fs29) ∧ 5 < fs29.length ∧ ∀ y28, y28 = hput y26 a0 (ob 1 (fs29.set 5 (va_rf (some a27)))) → ((((((0 + 1) + 1) + 1) + 1) + 1) + (1 + 16 / 20)) + (1 + 16 / 20) ≤ B ∧ ∀ a31, a31 = y28.2 → ∀ y30, y30 = hnew y28 (ai 5 16 (fun _ => 0)) → ∃ fs33, y30.1 a0 = some (ob 1 fs33) ∧ 6 < fs33.length ∧ ∀ y32, y32 = hput y30 a0 (ob 1 (fs33.set 6 (va_rf (some a31)))) → post y32) y21 a22) y16 a17) y11 a12) y6 a7) y1 a2
theorem hs_X2_init : yX2_init.cls ≠ "java/lang/invoke/MethodHandle" ∧ yX2_init.cls ≠ "java/lang/invoke/VarHandle" ∧ (parseMethodDescriptor yX2_init.desc).map (fun d => d.parameters.length) = some 0 := by decide +kernel
set_option maxHeartbeats 4000000 in
theorem met_X2_init (l : Launch) (G : GP) (d : Nat) {B : Nat} {post : HS → Prop} {y0 : HS} {a0 : Nat} (hw : wp_X2_init G B post y0 a0) : vx_Met l yX2_init (ws_ yX2_init cX2_init 1 none) (rmB (d + 4) B) (hPc G y0 [va_rf (some a0)]) (hQv G y0 post) (hX G y0 (fun _ _ _ => False)) B (20 * B) (HA y0) := by
  unfold wp_X2_init at hw
  refine hv_met (own := RX2) (by decide) rfl (Nat.le_of_ble_eq_true rfl) ?_
  intro p e s m args below meth c ls E hr hlocks hnm hE hK hI hl
  replace hl : lv_has ls 1 [(0, va_rf (some a0))] := hl
  have hu : 0 ≤ B := Nat.zero_le _
  refine hv_aload_n (r := some a0) E.1 E.2.1 dX2_init_0 rfl (lv_at hl 0 rfl) ?_
  refine hv_objInit (r := some a0) E q201 hl.1 rfl (by first | rfl | decide | (simp [va_rf_cat, int_cat, long_cat]; done) | (simp [va_rf_cat, int_cat, long_cat]; decide)) dX2_init_1 ?_
  refine hv_aload_n (r := some a0) E.1 E.2.1 dX2_init_4 rfl (lv_at hl 0 rfl) ?_
  obtain ⟨hu, hw⟩ := hw
  refine hv_new (fs := [.int 0, va_rf none, .int 0]) E hK hI ciJ2 q202 q203 q124 (df18) (Nat.le_of_ble_eq_true rfl) hu dX2_init_5 (fun H hI => ?_)
  obtain ⟨a2, ea2⟩ : ∃ w, w = y0.2 := ⟨_, rfl⟩
  obtain ⟨y1, ey1⟩ : ∃ w, w = hnew y0 (ob 18 [.int 0, va_rf none, .int 0]) := ⟨_, rfl⟩
  rw [← ea2]
  rw [← ey1] at hI
  replace hw := hw a2 ea2 y1 ey1
  refine hv_dup E.1 E.2.1 dX2_init_8 ?_
  have hq := hw
  clear hw
  refine hv_callv (u := ((0 + 1))) (B1 := 0) hI (vx_runI (b := a2) (As := []) (rest := [va_rf (some a2), va_rf (some a0)]) E (met_J2_init l G (d) hq) (cwI 0 E.2.2.2.2 (lw_meth q206) rfl rfl rfl (E.2.2.2.2 _ q124) (E.2.2.2.2 _ q204) (E.2.2.2.2 _ q205) rfl hs_J2_init (rm_ok (by omega) (by decide))) (hv_preS hK hI) rfl rfl hl.1 rfl (lv_room (by first | rfl | decide | (simp [va_rf_cat, int_cat, long_cat]; done) | (simp [va_rf_cat, int_cat, long_cat]; decide))) dX2_init_9 (hv_fit (by first | exact hu | omega))) (fun _ _ _ _ _ h => h.elim) (fun y3 H locs hw hI => ?_)
  obtain ⟨fs5, hfs, hln, hw⟩ := hw
  refine hv_putF (v := va_rf (some a2)) E hK hI ciX2 0 (Nat.le_of_ble_eq_true rfl) q230 (fun _ h => h) rfl hnm rfl (rf_nar _ _ rfl) (rf_fit _ _ rfl) hfs hln dX2_init_12 (fun H locs hI => ?_)
  obtain ⟨y4, ey4⟩ : ∃ w, w = hput y3 a0 (ob 1 (fs5.set 0 (va_rf (some a2)))) := ⟨_, rfl⟩
  rw [← ey4] at hI
  replace hw := hw y4 ey4
  refine hv_aload_n (r := some a0) E.1 E.2.1 dX2_init_15 rfl (lv_at hl 0 rfl) ?_
  obtain ⟨hu, hw⟩ := hw
  refine hv_new (fs := [.int 0, va_rf none, .int 0]) E hK hI ciJ2 q202 q203 q124 (df18) (Nat.le_of_ble_eq_true rfl) hu dX2_init_16 (fun H hI => ?_)
  obtain ⟨a7, ea7⟩ : ∃ w, w = y4.2 := ⟨_, rfl⟩
  obtain ⟨y6, ey6⟩ : ∃ w, w = hnew y4 (ob 18 [.int 0, va_rf none, .int 0]) := ⟨_, rfl⟩
  rw [← ea7]
  rw [← ey6] at hI
  replace hw := hw a7 ea7 y6 ey6
  refine hv_dup E.1 E.2.1 dX2_init_19 ?_
  have hq := hw
  clear hw
  refine hv_callv (u := (((0 + 1) + 1))) (B1 := 0) hI (vx_runI (b := a7) (As := []) (rest := [va_rf (some a7), va_rf (some a0)]) E (met_J2_init l G (d) hq) (cwI 0 E.2.2.2.2 (lw_meth q206) rfl rfl rfl (E.2.2.2.2 _ q124) (E.2.2.2.2 _ q204) (E.2.2.2.2 _ q205) rfl hs_J2_init (rm_ok (by omega) (by decide))) (hv_preS hK hI) rfl rfl hl.1 rfl (lv_room (by first | rfl | decide | (simp [va_rf_cat, int_cat, long_cat]; done) | (simp [va_rf_cat, int_cat, long_cat]; decide))) dX2_init_20 (hv_fit (by first | exact hu | omega))) (fun _ _ _ _ _ h => h.elim) (fun y8 H locs hw hI => ?_)
  obtain ⟨fs10, hfs, hln, hw⟩ := hw
  refine hv_putF (v := va_rf (some a7)) E hK hI ciX2 1 (Nat.le_of_ble_eq_true rfl) q234 (fun _ h => h) rfl hnm rfl (rf_nar _ _ rfl) (rf_fit _ _ rfl) hfs hln dX2_init_23 (fun H locs hI => ?_)
  obtain ⟨y9, ey9⟩ : ∃ w, w = hput y8 a0 (ob 1 (fs10.set 1 (va_rf (some a7)))) := ⟨_, rfl⟩
  rw [← ey9] at hI
  replace hw := hw y9 ey9
  refine hv_aload_n (r := some a0) E.1 E.2.1 dX2_init_26 rfl (lv_at hl 0 rfl) ?_
  obtain ⟨hu, hw⟩ := hw
  refine hv_new (fs := [.int 0, va_rf none, .int 0]) E hK hI ciJ2 q202 q203 q124 (df18) (Nat.le_of_ble_eq_true rfl) hu dX2_init_27 (fun H hI => ?_)
  obtain ⟨a12, ea12⟩ : ∃ w, w = y9.2 := ⟨_, rfl⟩
  obtain ⟨y11, ey11⟩ : ∃ w, w = hnew y9 (ob 18 [.int 0, va_rf none, .int 0]) := ⟨_, rfl⟩
  rw [← ea12]
  rw [← ey11] at hI
  replace hw := hw a12 ea12 y11 ey11
  refine hv_dup E.1 E.2.1 dX2_init_30 ?_
  have hq := hw
  clear hw
  refine hv_callv (u := ((((0 + 1) + 1) + 1))) (B1 := 0) hI (vx_runI (b := a12) (As := []) (rest := [va_rf (some a12), va_rf (some a0)]) E (met_J2_init l G (d) hq) (cwI 0 E.2.2.2.2 (lw_meth q206) rfl rfl rfl (E.2.2.2.2 _ q124) (E.2.2.2.2 _ q204) (E.2.2.2.2 _ q205) rfl hs_J2_init (rm_ok (by omega) (by decide))) (hv_preS hK hI) rfl rfl hl.1 rfl (lv_room (by first | rfl | decide | (simp [va_rf_cat, int_cat, long_cat]; done) | (simp [va_rf_cat, int_cat, long_cat]; decide))) dX2_init_31 (hv_fit (by first | exact hu | omega))) (fun _ _ _ _ _ h => h.elim) (fun y13 H locs hw hI => ?_)
  obtain ⟨fs15, hfs, hln, hw⟩ := hw
  refine hv_putF (v := va_rf (some a12)) E hK hI ciX2 2 (Nat.le_of_ble_eq_true rfl) q238 (fun _ h => h) rfl hnm rfl (rf_nar _ _ rfl) (rf_fit _ _ rfl) hfs hln dX2_init_34 (fun H locs hI => ?_)
  obtain ⟨y14, ey14⟩ : ∃ w, w = hput y13 a0 (ob 1 (fs15.set 2 (va_rf (some a12)))) := ⟨_, rfl⟩
  rw [← ey14] at hI
  replace hw := hw y14 ey14
  refine hv_aload_n (r := some a0) E.1 E.2.1 dX2_init_37 rfl (lv_at hl 0 rfl) ?_
  obtain ⟨hu, hw⟩ := hw
  refine hv_new (fs := [.int 0, va_rf none, .int 0]) E hK hI ciJ2 q202 q203 q124 (df18) (Nat.le_of_ble_eq_true rfl) hu dX2_init_38 (fun H hI => ?_)
  obtain ⟨a17, ea17⟩ : ∃ w, w = y14.2 := ⟨_, rfl⟩
  obtain ⟨y16, ey16⟩ : ∃ w, w = hnew y14 (ob 18 [.int 0, va_rf none, .int 0]) := ⟨_, rfl⟩
  rw [← ea17]
  rw [← ey16] at hI
  replace hw := hw a17 ea17 y16 ey16
  refine hv_dup E.1 E.2.1 dX2_init_41 ?_
  have hq := hw
  clear hw
  refine hv_callv (u := (((((0 + 1) + 1) + 1) + 1))) (B1 := 0) hI (vx_runI (b := a17) (As := []) (rest := [va_rf (some a17), va_rf (some a0)]) E (met_J2_init l G (d) hq) (cwI 0 E.2.2.2.2 (lw_meth q206) rfl rfl rfl (E.2.2.2.2 _ q124) (E.2.2.2.2 _ q204) (E.2.2.2.2 _ q205) rfl hs_J2_init (rm_ok (by omega) (by decide))) (hv_preS hK hI) rfl rfl hl.1 rfl (lv_room (by first | rfl | decide | (simp [va_rf_cat, int_cat, long_cat]; done) | (simp [va_rf_cat, int_cat, long_cat]; decide))) dX2_init_42 (hv_fit (by first | exact hu | omega))) (fun _ _ _ _ _ h => h.elim) (fun y18 H locs hw hI => ?_)
  obtain ⟨fs20, hfs, hln, hw⟩ := hw
  refine hv_putF (v := va_rf (some a17)) E hK hI ciX2 3 (Nat.le_of_ble_eq_true rfl) q242 (fun _ h => h) rfl hnm rfl (rf_nar _ _ rfl) (rf_fit _ _ rfl) hfs hln dX2_init_45 (fun H locs hI => ?_)
  obtain ⟨y19, ey19⟩ : ∃ w, w = hput y18 a0 (ob 1 (fs20.set 3 (va_rf (some a17)))) := ⟨_, rfl⟩
  rw [← ey19] at hI
  replace hw := hw y19 ey19
  refine hv_aload_n (r := some a0) E.1 E.2.1 dX2_init_48 rfl (lv_at hl 0 rfl) ?_
  obtain ⟨hu, hw⟩ := hw
  refine hv_new (fs := [.int 0, va_rf none, .int 0]) E hK hI ciJ2 q202 q203 q124 (df18) (Nat.le_of_ble_eq_true rfl) hu dX2_init_49 (fun H hI => ?_)
  obtain ⟨a22, ea22⟩ : ∃ w, w = y19.2 := ⟨_, rfl⟩
  obtain ⟨y21, ey21⟩ : ∃ w, w = hnew y19 (ob 18 [.int 0, va_rf none, .int 0]) := ⟨_, rfl⟩
  rw [← ea22]
  rw [← ey21] at hI
  replace hw := hw a22 ea22 y21 ey21
  refine hv_dup E.1 E.2.1 dX2_init_52 ?_
  have hq := hw
  clear hw
  refine hv_callv (u := ((((((0 + 1) + 1) + 1) + 1) + 1))) (B1 := 0) hI (vx_runI (b := a22) (As := []) (rest := [va_rf (some a22), va_rf (some a0)]) E (met_J2_init l G (d) hq) (cwI 0 E.2.2.2.2 (lw_meth q206) rfl rfl rfl (E.2.2.2.2 _ q124) (E.2.2.2.2 _ q204) (E.2.2.2.2 _ q205) rfl hs_J2_init (rm_ok (by omega) (by decide))) (hv_preS hK hI) rfl rfl hl.1 rfl (lv_room (by first | rfl | decide | (simp [va_rf_cat, int_cat, long_cat]; done) | (simp [va_rf_cat, int_cat, long_cat]; decide))) dX2_init_53 (hv_fit (by first | exact hu | omega))) (fun _ _ _ _ _ h => h.elim) (fun y23 H locs hw hI => ?_)
  obtain ⟨fs25, hfs, hln, hw⟩ := hw
  refine hv_putF (v := va_rf (some a22)) E hK hI ciX2 4 (Nat.le_of_ble_eq_true rfl) q244 (fun _ h => h) rfl hnm rfl (rf_nar _ _ rfl) (rf_fit _ _ rfl) hfs hln dX2_init_56 (fun H locs hI => ?_)
  obtain ⟨y24, ey24⟩ : ∃ w, w = hput y23 a0 (ob 1 (fs25.set 4 (va_rf (some a22)))) := ⟨_, rfl⟩
  rw [← ey24] at hI
  replace hw := hw y24 ey24
  refine hv_aload_n (r := some a0) E.1 E.2.1 dX2_init_59 rfl (lv_at hl 0 rfl) ?_
  refine lv_bipush (v := nI 16) E.1 E.2.1 dX2_init_60 rfl ?_
  obtain ⟨hu, hw⟩ := hw
  refine hv_anew7 (N := 16) E hK hI q228 rfl (by decide) hu dX2_init_62 (fun H hI => ?_)
  obtain ⟨a27, ea27⟩ : ∃ w, w = y24.2 := ⟨_, rfl⟩
  obtain ⟨y26, ey26⟩ : ∃ w, w = hnew y24 (ar 7 16 (fun _ => none)) := ⟨_, rfl⟩
  rw [← ea27]
  rw [← ey26] at hI
  replace hw := hw a27 ea27 y26 ey26
  obtain ⟨fs29, hfs, hln, hw⟩ := hw
  refine hv_putF (v := va_rf (some a27)) E hK hI ciX2 5 (Nat.le_of_ble_eq_true rfl) q246 (fun _ h => h) rfl hnm rfl (rf_nar _ _ rfl) (rf_fit _ _ rfl) hfs hln dX2_init_65 (fun H locs hI => ?_)
  obtain ⟨y28, ey28⟩ : ∃ w, w = hput y26 a0 (ob 1 (fs29.set 5 (va_rf (some a27)))) := ⟨_, rfl⟩
  rw [← ey28] at hI
  replace hw := hw y28 ey28
  refine hv_aload_n (r := some a0) E.1 E.2.1 dX2_init_68 rfl (lv_at hl 0 rfl) ?_
  refine lv_bipush (v := nI 16) E.1 E.2.1 dX2_init_69 rfl ?_
  obtain ⟨hu, hw⟩ := hw
  refine hv_newa (N := 16) (t := 5) (ty := .short) (atype := .short) E hK hI rfl rfl q276 rfl rfl rfl (by decide) (by decide) hu dX2_init_71 (fun H hI => ?_)
  obtain ⟨a31, ea31⟩ : ∃ w, w = y28.2 := ⟨_, rfl⟩
  obtain ⟨y30, ey30⟩ : ∃ w, w = hnew y28 (ai 5 16 (fun _ => 0)) := ⟨_, rfl⟩
  rw [← ea31]
  rw [← ey30] at hI
  replace hw := hw a31 ea31 y30 ey30
  obtain ⟨fs33, hfs, hln, hw⟩ := hw
  refine hv_putF (v := va_rf (some a31)) E hK hI ciX2 6 (Nat.le_of_ble_eq_true rfl) q248 (fun _ h => h) rfl hnm rfl (rf_nar _ _ rfl) (rf_fit _ _ rfl) hfs hln dX2_init_73 (fun H locs hI => ?_)
  obtain ⟨y32, ey32⟩ : ∃ w, w = hput y30 a0 (ob 1 (fs33.set 6 (va_rf (some a31)))) := ⟨_, rfl⟩
  rw [← ey32] at hI
  replace hw := hw y32 ey32
  exact hv_vret E hr hlocks hI hu hw dX2_init_76
/-- CaseGrouper$Edition.find(Ljava/lang/String;)LCaseGrouper$Chapter; -/
def wp_X2_find (G : GP) (post : Option Nat → HS → Prop) (y0 : HS) (a0 : Nat) (p1 : Option Nat) : Prop := ∃ I1 : Nat → HS → Int32 → Prop, (∃ n7, I1 n7 y0 (nI 0)) ∧ ∀ (n2 : Nat) (y3 : HS) (x6 : Int32), I1 n2 y3 x6 → ∃ f8, fR y3 a0 1 0 f8 ∧ ∃ a9, f8 = some a9 ∧ (∃ fs12, rd G y3 a9 (ob 18 fs12)) ∧ wp_J2_size G (fun x11 y10 => (x11 ≤ x6 → post none y10) ∧ (¬ x11 ≤ x6 → ∃ f14, fR y10 a0 1 0 f14 ∧ ∃ a15, f14 = some a15 ∧ (∃ fs18, rd G y10 a15 (ob 18 fs18)) ∧ wp_J2_get G (fun r17 y16 => isOf G y16 r17 7 ∧ ∃ a19, r17 = some a19 ∧ ∃ f20, fR y16 a19 7 0 f20 ∧ ∃ a21, f20 = some a21 ∧ (∃ fs24, rd G y16 a21 (ob 20 fs24)) ∧ wp_J5_equals G (fun b23 y22 => (b23 = false → ∃ n26, n26 < n2 ∧ I1 n26 y22 (x6 + nI 1)) ∧ (b23 = true → ∃ f27, fR y22 a0 1 0 f27 ∧ ∃ a28, f27 = some a28 ∧ (∃ fs31, rd G y22 a28 (ob 18 fs31)) ∧ wp_J2_get G (fun r30 y29 => isOf G y29 r30 7 ∧ post r30 y29) y22 a28 x6)) y16 a21 p1) y10 a15 x6)) y3 a9
theorem hs_X2_find : yX2_find.cls ≠ "java/lang/invoke/MethodHandle" ∧ yX2_find.cls ≠ "java/lang/invoke/VarHandle" ∧ (parseMethodDescriptor yX2_find.desc).map (fun d => d.parameters.length) = some 1 := by decide +kernel
theorem hd_X2_find : yX2_find.cls = RX2 ∧ yX2_find.cls ≠ "java/lang/invoke/MethodHandle" ∧ yX2_find.cls ≠ "java/lang/invoke/VarHandle" ∧ (parseMethodDescriptor yX2_find.desc).map (fun d => d.parameters.length) = some 1 := by decide +kernel
set_option maxHeartbeats 4000000 in
theorem met_X2_find (l : Launch) (G : GP) (d : Nat) {post : Option Nat → HS → Prop} {y0 : HS} {a0 : Nat} {p1 : Option Nat} (hw : wp_X2_find G post y0 a0 p1) : vx_Met l yX2_find (ws_ yX2_find cX2_find 3 (some (.object "CaseGrouper$Chapter"))) (rmB (d + 3) 0) (hPc G y0 [va_rf (some a0), va_rf p1]) (hQq G y0 post) (hX G y0 (fun _ _ _ => False)) 0 (20 * 0) (HA y0) := by
  unfold wp_X2_find at hw
  refine hv_met (own := RX2) (by decide) rfl (by simp [lg_sl, va_rf_cat, int_cat, long_cat]) ?_
  intro p e s m args below meth c ls E hr hlocks hnm hE hK hI hl
  replace hl : lv_has ls 3 [(0, va_rf (some a0)), (1, va_rf p1)] := by simpa [lv_args, va_rf_cat, int_cat, long_cat] using hl
  refine lv_iconst (v := nI 0) E.1 E.2.1 dX2_find_0 rfl ?_
  refine lv_istore_n (lv' := [(2, .int (nI 0)), (0, va_rf (some a0)), (1, va_rf p1)]) E.1 E.2.1 dX2_find_1 rfl hl (Nat.le_of_ble_eq_true rfl) (by first | rfl | decide | (simp [va_rf_cat, int_cat, long_cat]; done) | (simp [va_rf_cat, int_cat, long_cat]; decide)) (fun ls hl => ?_)
  obtain ⟨I1, ⟨n7, hi33⟩, hb32⟩ := hw
  have L5 : ∀ (n2 : Nat) (y3 : HS) (x6 : Int32), I1 n2 y3 x6 → ∀ (H : Heap) (locs : List Loc) (ls : Array Slot), HI G y0 y3 s H locs → lv_has ls 3 [(0, va_rf (some a0)), (1, va_rf p1), (2, .int (x6))] → W p l e (rmB (d + 3) 0) s m args below meth c H locs 0 (20 * 0) (vx_MQ below (hQq G y0 post) (hX G y0 (fun _ _ _ => False)) args s 0 (20 * 0) (HA y0)) (F0 m 2 ls []) := by
    intro n2
    induction n2 using Nat.strongRecOn with
    | _ n2 ih4 =>
      intro y3 x6 hw H locs ls hI hl
      replace hw := hb32 n2 y3 x6 hw
      refine lv_iload_n E.1 E.2.1 dX2_find_2 rfl (lv_at hl 2 rfl) ?_
      refine hv_aload_n (r := some a0) E.1 E.2.1 dX2_find_3 rfl (lv_at hl 0 rfl) ?_
      obtain ⟨f8, ⟨fs, hfs, hfk⟩, hw⟩ := hw
      refine hv_get (v := va_rf f8) E hK hI ciX2 0 (Nat.le_of_ble_eq_true rfl) q230 (fun _ h => h) (Or.inl hfs) hfk dX2_find_4 ?_
      obtain ⟨a9, ea9, hw⟩ := hw
      revert hl hw; subst ea9; intro hl hw
      obtain ⟨⟨fs12, hrv⟩, hw⟩ := hw
      have hq := hw
      clear hw
      refine hv_calli (u := 0) (B1 := 0) hI (vx_runV (As := []) (rest := [.int (x6)]) E (met_J2_size l G (d + 2) hq) (cwV 0 E.2.2.2.2 (lw_V q783 q752 q753 q124 q754) rfl rfl rfl hd_J2_size (rm_ok (by omega) (by decide))) (hv_preV hK hI hrv rfl) rfl rfl hl.1 rfl (lv_room (by first | rfl | decide | (simp [va_rf_cat, int_cat, long_cat]; done) | (simp [va_rf_cat, int_cat, long_cat]; decide))) dX2_find_7 (hv_fit (by first | exact (Nat.le_refl 0) | omega))) (fun _ _ _ _ _ h => h.elim) (fun x11 y10 H locs hw hI => ?_)
      refine lv_icmp_ge (tgt := 52) E.1 E.2.1 dX2_find_10 (by decide) (fun c13 => ?_) (fun c13 => ?_)
      · replace hw := hw.1 (c13)
        refine lv_null E.1 E.2.1 dX2_find_52 ?_
        exact hv_aret (r := none) E hr (Or.inl ⟨_, rfl⟩) hlocks hI (Nat.le_refl 0) hw dX2_find_53
      · replace hw := hw.2 (c13)
        refine hv_aload_n (r := some a0) E.1 E.2.1 dX2_find_13 rfl (lv_at hl 0 rfl) ?_
        obtain ⟨f14, ⟨fs, hfs, hfk⟩, hw⟩ := hw
        refine hv_get (v := va_rf f14) E hK hI ciX2 0 (Nat.le_of_ble_eq_true rfl) q230 (fun _ h => h) (Or.inl hfs) hfk dX2_find_14 ?_
        refine lv_iload_n E.1 E.2.1 dX2_find_17 rfl (lv_at hl 2 rfl) ?_
        obtain ⟨a15, ea15, hw⟩ := hw
        revert hl hw; subst ea15; intro hl hw
        obtain ⟨⟨fs18, hrv⟩, hw⟩ := hw
        have hq := hw
        clear hw
        refine hv_callq (u := 0) (B1 := 0) hI (vx_runV (As := [.int (x6)]) (rest := []) E (met_J2_get l G (d) hq) (cwV 1 E.2.2.2.2 (lw_V q784 q785 q786 q124 q787) rfl rfl rfl hd_J2_get (rm_ok (by omega) (by decide))) (hv_preV hK hI hrv rfl) rfl rfl hl.1 rfl (lv_room (by first | rfl | decide | (simp [va_rf_cat, int_cat, long_cat]; done) | (simp [va_rf_cat, int_cat, long_cat]; decide))) dX2_find_18 (hv_fit (by first | exact (Nat.le_refl 0) | omega))) (fun _ _ _ _ _ h => h.elim) (fun r17 y16 H locs hw hI => ?_)
        obtain ⟨hof, hw⟩ := hw
        refine hv_castC (cn := 7) E hK hI (by decide) q796 hof dX2_find_21 ?_
        obtain ⟨a19, ea19, hw⟩ := hw
        revert hl hw; subst ea19; intro hl hw
        obtain ⟨f20, ⟨fs, hfs, hfk⟩, hw⟩ := hw
        refine hv_getN (v := va_rf f20) E hK hI ciX9 0 (Nat.le_of_ble_eq_true rfl) q807 (fun _ h => h) (Or.inl hfs) hfk dX2_find_24 ?_
        refine hv_aload_n (r := p1) E.1 E.2.1 dX2_find_27 rfl (lv_at hl 1 rfl) ?_
        obtain ⟨a21, ea21, hw⟩ := hw
        revert hl hw; subst ea21; intro hl hw
        obtain ⟨⟨fs24, hrv⟩, hw⟩ := hw
        have hq := hw
        clear hw
        refine hv_callz (u := 0) (B1 := 0) hI (vx_runV (As := [va_rf p1]) (rest := []) E (met_J5_equals l G (d + 1) hq) (cwV 1 E.2.2.2.2 (lw_V q797 q737 q738 q132 q739) rfl rfl rfl hd_J5_equals (rm_ok (by omega) (by decide))) (hv_preV hK hI hrv rfl) rfl rfl hl.1 rfl (lv_room (by first | rfl | decide | (simp [va_rf_cat, int_cat, long_cat]; done) | (simp [va_rf_cat, int_cat, long_cat]; decide))) dX2_find_28 (hv_fit (by first | exact (Nat.le_refl 0) | omega))) (fun _ _ _ _ _ h => h.elim) (fun b23 y22 H locs hw hI => ?_)
        refine lv_if_eq (tgt := 46) E.1 E.2.1 dX2_find_31 (by decide) (fun c25 => ?_) (fun c25 => ?_)
        · replace hw := hw.1 (bi_z c25)
          refine lv_iinc (k := 2) (v := x6 + nI 1) (lv' := [(2, .int (x6 + nI 1)), (0, va_rf (some a0)), (1, va_rf p1)]) E.1 E.2.1 dX2_find_46 hl rfl rfl (Nat.le_of_ble_eq_true rfl) (by first | rfl | decide | (simp [va_rf_cat, int_cat, long_cat]; done) | (simp [va_rf_cat, int_cat, long_cat]; decide)) (fun ls hl => ?_)
          refine lv_goto (tgt := 2) E.1 E.2.1 dX2_find_49 (by decide) ?_
          obtain ⟨n26, hnn26, hin26⟩ := hw
          exact ih4 n26 hnn26 _ _ hin26 _ _ _ hI (lv_sub hl [1, 2, 0] rfl)
        · replace hw := hw.2 (bi_n c25)
          refine hv_aload_n (r := some a0) E.1 E.2.1 dX2_find_34 rfl (lv_at hl 0 rfl) ?_
          obtain ⟨f27, ⟨fs, hfs, hfk⟩, hw⟩ := hw
          refine hv_get (v := va_rf f27) E hK hI ciX2 0 (Nat.le_of_ble_eq_true rfl) q230 (fun _ h => h) (Or.inl hfs) hfk dX2_find_35 ?_
          refine lv_iload_n E.1 E.2.1 dX2_find_38 rfl (lv_at hl 2 rfl) ?_
          obtain ⟨a28, ea28, hw⟩ := hw
          revert hl hw; subst ea28; intro hl hw
          obtain ⟨⟨fs31, hrv⟩, hw⟩ := hw
          have hq := hw
          clear hw
          refine hv_callq (u := 0) (B1 := 0) hI (vx_runV (As := [.int (x6)]) (rest := []) E (met_J2_get l G (d) hq) (cwV 1 E.2.2.2.2 (lw_V q784 q785 q786 q124 q787) rfl rfl rfl hd_J2_get (rm_ok (by omega) (by decide))) (hv_preV hK hI hrv rfl) rfl rfl hl.1 rfl (lv_room (by first | rfl | decide | (simp [va_rf_cat, int_cat, long_cat]; done) | (simp [va_rf_cat, int_cat, long_cat]; decide))) dX2_find_39 (hv_fit (by first | exact (Nat.le_refl 0) | omega))) (fun _ _ _ _ _ h => h.elim) (fun r30 y29 H locs hw hI => ?_)
          obtain ⟨hof, hw⟩ := hw
          refine hv_castC (cn := 7) E hK hI (by decide) q796 hof dX2_find_42 ?_
          exact hv_aret (r := r30) E hr (Or.inl ⟨_, rfl⟩) hlocks hI (Nat.le_refl 0) hw dX2_find_45
  exact L5 n7 _ _ hi33 _ _ _ hI (lv_sub hl [1, 2, 0] rfl)
/-- CaseGrouper$Edition.isCalled(I[C)Z -/
def wp_X2_isCalled (G : GP) (post : Bool → HS → Prop) (y0 : HS) (a0 : Nat) (i1 : Int32) (p2 : Option Nat) : Prop := ∃ f1, fR y0 a0 1 5 f1 ∧ ∃ a2, f1 = some a2 ∧ ∃ (n3 : Nat) (g4 : Nat → Option Nat), rd G y0 a2 (ar 7 n3 g4) ∧ vp_in i1 n3 ∧ ∃ a5, g4 i1.toNatClampNeg = some a5 ∧ ∃ (n6 : Nat) (g7 : Nat → Int32), rd G y0 a5 (ai 4 n6 g7) ∧ ∃ a8, p2 = some a8 ∧ ∃ (n9 : Nat) (g10 : Nat → Int32), rd G y0 a8 (ai 4 n9 g10) ∧ ((nI n6) = (nI n9) → ∃ I12 : Nat → HS → Int32 → Prop, (∃ n18, I12 n18 y0 (nI 0)) ∧ ∀ (n13 : Nat) (y14 : HS) (x17 : Int32), I12 n13 y14 x17 → ∃ (n19 : Nat) (g20 : Nat → Int32), rd G y14 a8 (ai 4 n19 g20) ∧ ((nI n19) ≤ x17 → post true y14) ∧ (¬ (nI n19) ≤ x17 → ∃ f22, fR y14 a0 1 5 f22 ∧ ∃ a23, f22 = some a23 ∧ ∃ (n24 : Nat) (g25 : Nat → Option Nat), rd G y14 a23 (ar 7 n24 g25) ∧ vp_in i1 n24 ∧ ∃ a26, g25 i1.toNatClampNeg = some a26 ∧ ∃ (n27 : Nat) (g28 : Nat → Int32), rd G y14 a26 (ai 4 n27 g28) ∧ vp_in x17 n27 ∧ ∃ (n29 : Nat) (g30 : Nat → Int32), rd G y14 a8 (ai 4 n29 g30) ∧ vp_in x17 n29 ∧ ((g28 x17.toNatClampNeg) = (g30 x17.toNatClampNeg) → ∃ n32, n32 < n13 ∧ I12 n32 y14 (x17 + nI 1)) ∧ (¬ (g28 x17.toNatClampNeg) = (g30 x17.toNatClampNeg) → post false y14))) ∧ (¬ (nI n6) = (nI n9) → post false y0)
theorem hs_X2_isCalled : yX2_isCalled.cls ≠ "java/lang/invoke/MethodHandle" ∧ yX2_isCalled.cls ≠ "java/lang/invoke/VarHandle" ∧ (parseMethodDescriptor yX2_isCalled.desc).map (fun d => d.parameters.length) = some 2 := by decide +kernel
theorem hd_X2_isCalled : yX2_isCalled.cls = RX2 ∧ yX2_isCalled.cls ≠ "java/lang/invoke/MethodHandle" ∧ yX2_isCalled.cls ≠ "java/lang/invoke/VarHandle" ∧ (parseMethodDescriptor yX2_isCalled.desc).map (fun d => d.parameters.length) = some 2 := by decide +kernel
set_option maxHeartbeats 4000000 in
theorem met_X2_isCalled (l : Launch) (G : GP) (d : Nat) {post : Bool → HS → Prop} {y0 : HS} {a0 : Nat} {i1 : Int32} {p2 : Option Nat} (hw : wp_X2_isCalled G post y0 a0 i1 p2) : vx_Met l yX2_isCalled (ws_ yX2_isCalled cX2_isCalled 4 (some .boolean)) (rmB (d + 0) 0) (hPc G y0 [va_rf (some a0), .int (i1), va_rf p2]) (hQz G y0 post) (hX G y0 (fun _ _ _ => False)) 0 (20 * 0) (HA y0) := by
  unfold wp_X2_isCalled at hw
  refine hv_met (own := RX2) (by decide) rfl (by simp [lg_sl, va_rf_cat, int_cat, long_cat]) ?_
  intro p e s m args below meth c ls E hr hlocks hnm hE hK hI hl
  replace hl : lv_has ls 4 [(0, va_rf (some a0)), (1, .int (i1)), (2, va_rf p2)] := by simpa [lv_args, va_rf_cat, int_cat, long_cat] using hl
  refine hv_aload_n (r := some a0) E.1 E.2.1 dX2_isCalled_0 rfl (lv_at hl 0 rfl) ?_
  obtain ⟨f1, ⟨fs, hfs, hfk⟩, hw⟩ := hw
  refine hv_get (v := va_rf f1) E hK hI ciX2 5 (Nat.le_of_ble_eq_true rfl) q246 (fun _ h => h) (Or.inl hfs) hfk dX2_isCalled_1 ?_
  refine lv_iload_n E.1 E.2.1 dX2_isCalled_4 rfl (lv_at hl 1 rfl) ?_
  obtain ⟨a2, ea2, hw⟩ := hw
  revert hl hw; subst ea2; intro hl hw
  obtain ⟨n3, g4, hra, hin, hw⟩ := hw
  refine hv_aald E hK hI hra rfl rfl hin dX2_isCalled_5 ?_
  obtain ⟨a5, ea5, hw⟩ := hw
  rw [ea5]
  obtain ⟨n6, g7, hra, hw⟩ := hw
  refine hv_alen (t := 4) E hK hI hra rfl dX2_isCalled_6 ?_
  refine hv_aload_n (r := p2) E.1 E.2.1 dX2_isCalled_7 rfl (lv_at hl 2 rfl) ?_
  obtain ⟨a8, ea8, hw⟩ := hw
  revert hl hw; subst ea8; intro hl hw
  obtain ⟨n9, g10, hra, hw⟩ := hw
  refine hv_alen (t := 4) E hK hI hra rfl dX2_isCalled_8 ?_
  refine lv_icmp_eq (tgt := 14) E.1 E.2.1 dX2_isCalled_9 (by decide) (fun c11 => ?_) (fun c11 => ?_)
  · replace hw := hw.1 (c11)
    refine lv_iconst (v := nI 0) E.1 E.2.1 dX2_isCalled_14 rfl ?_
    refine lv_istore_n (lv' := [(3, .int (nI 0)), (0, va_rf (some a0)), (1, .int (i1)), (2, va_rf (some a8))]) E.1 E.2.1 dX2_isCalled_15 rfl hl (Nat.le_of_ble_eq_true rfl) (by first | rfl | decide | (simp [va_rf_cat, int_cat, long_cat]; done) | (simp [va_rf_cat, int_cat, long_cat]; decide)) (fun ls hl => ?_)
    obtain ⟨I12, ⟨n18, hi34⟩, hb33⟩ := hw
    have L16 : ∀ (n13 : Nat) (y14 : HS) (x17 : Int32), I12 n13 y14 x17 → ∀ (H : Heap) (locs : List Loc) (ls : Array Slot), HI G y0 y14 s H locs → lv_has ls 4 [(0, va_rf (some a0)), (1, .int (i1)), (2, va_rf (some a8)), (3, .int (x17))] → W p l e (rmB (d + 0) 0) s m args below meth c H locs 0 (20 * 0) (vx_MQ below (hQz G y0 post) (hX G y0 (fun _ _ _ => False)) args s 0 (20 * 0) (HA y0)) (F0 m 16 ls []) := by
      intro n13
      induction n13 using Nat.strongRecOn with
      | _ n13 ih15 =>
        intro y14 x17 hw H locs ls hI hl
        replace hw := hb33 n13 y14 x17 hw
        refine lv_iload_n E.1 E.2.1 dX2_isCalled_16 rfl (lv_at hl 3 rfl) ?_
        refine hv_aload_n (r := some a8) E.1 E.2.1 dX2_isCalled_17 rfl (lv_at hl 2 rfl) ?_
        obtain ⟨n19, g20, hra, hw⟩ := hw
        refine hv_alen (t := 4) E hK hI hra rfl dX2_isCalled_18 ?_
        refine lv_icmp_ge (tgt := 44) E.1 E.2.1 dX2_isCalled_19 (by decide) (fun c21 => ?_) (fun c21 => ?_)
        · replace hw := hw.1 (c21)
          refine lv_iconst (v := nI 1) E.1 E.2.1 dX2_isCalled_44 rfl ?_
          exact hv_iretz (b := true) E hr hlocks hI (Nat.le_refl 0) rfl hw dX2_isCalled_45
        · replace hw := hw.2 (c21)
          refine hv_aload_n (r := some a0) E.1 E.2.1 dX2_isCalled_22 rfl (lv_at hl 0 rfl) ?_
          obtain ⟨f22, ⟨fs, hfs, hfk⟩, hw⟩ := hw
          refine hv_get (v := va_rf f22) E hK hI ciX2 5 (Nat.le_of_ble_eq_true rfl) q246 (fun _ h => h) (Or.inl hfs) hfk dX2_isCalled_23 ?_
          refine lv_iload_n E.1 E.2.1 dX2_isCalled_26 rfl (lv_at hl 1 rfl) ?_
          obtain ⟨a23, ea23, hw⟩ := hw
          revert hl hw; subst ea23; intro hl hw
          obtain ⟨n24, g25, hra, hin, hw⟩ := hw
          refine hv_aald E hK hI hra rfl rfl hin dX2_isCalled_27 ?_
          refine lv_iload_n E.1 E.2.1 dX2_isCalled_28 rfl (lv_at hl 3 rfl) ?_
          obtain ⟨a26, ea26, hw⟩ := hw
          rw [ea26]
          obtain ⟨n27, g28, hra, hin, hw⟩ := hw
          refine hv_cald E hK hI hra hin dX2_isCalled_29 ?_
          refine hv_aload_n (r := some a8) E.1 E.2.1 dX2_isCalled_30 rfl (lv_at hl 2 rfl) ?_
          refine lv_iload_n E.1 E.2.1 dX2_isCalled_31 rfl (lv_at hl 3 rfl) ?_
          obtain ⟨n29, g30, hra, hin, hw⟩ := hw
          refine hv_cald E hK hI hra hin dX2_isCalled_32 ?_
          refine lv_icmp_eq (tgt := 38) E.1 E.2.1 dX2_isCalled_33 (by decide) (fun c31 => ?_) (fun c31 => ?_)
          · replace hw := hw.1 (c31)
            refine lv_iinc (k := 3) (v := x17 + nI 1) (lv' := [(3, .int (x17 + nI 1)), (0, va_rf (some a0)), (1, .int (i1)), (2, va_rf (some a8))]) E.1 E.2.1 dX2_isCalled_38 hl rfl rfl (Nat.le_of_ble_eq_true rfl) (by first | rfl | decide | (simp [va_rf_cat, int_cat, long_cat]; done) | (simp [va_rf_cat, int_cat, long_cat]; decide)) (fun ls hl => ?_)
            refine lv_goto (tgt := 16) E.1 E.2.1 dX2_isCalled_41 (by decide) ?_
            obtain ⟨n32, hnn32, hin32⟩ := hw
            exact ih15 n32 hnn32 _ _ hin32 _ _ _ hI (lv_sub hl [1, 2, 3, 0] rfl)
          · replace hw := hw.2 (c31)
            refine lv_iconst (v := nI 0) E.1 E.2.1 dX2_isCalled_36 rfl ?_
            exact hv_iretz (b := false) E hr hlocks hI (Nat.le_refl 0) rfl hw dX2_isCalled_37
    exact L16 n18 _ _ hi34 _ _ _ hI (lv_sub hl [1, 2, 3, 0] rfl)
  · replace hw := hw.2 (c11)
    refine lv_iconst (v := nI 0) E.1 E.2.1 dX2_isCalled_12 rfl ?_
    exact hv_iretz (b := false) E hr hlocks hI (Nat.le_refl 0) rfl hw dX2_isCalled_13
/-- CaseGrouper$Edition.classOf(Ljava/lang/String;)I -/
def wp_X2_classOf (G : GP) (B : Nat) (post : Int32 → HS → Prop) (y0 : HS) (a0 : Nat) (p1 : Option Nat) : Prop := ∃ I1 : Nat → HS → Nat → Int32 → Prop, (∃ n8, I1 n8 y0 0 (nI 0)) ∧ ∀ (n2 : Nat) (y3 : HS) (u7 : Nat) (x6 : Int32), I1 n2 y3 u7 x6 → u7 ≤ B ∧ ∃ f9, fI y3 a0 1 7 f9 ∧ (f9 ≤ x6 → post ((-1)) y3) ∧ (¬ f9 ≤ x6 → ∃ a11, p1 = some a11 ∧ (∃ fs14, rd G y3 a11 (ob 20 fs14)) ∧ ∃ k15, u7 + k15 ≤ B ∧ wp_J5_toCharArray G k15 (fun r13 y12 => (∃ fs18, rd G y12 a0 (ob 1 fs18)) ∧ wp_X2_isCalled G (fun b17 y16 => (b17 = false → ∃ n20, n20 < n2 ∧ I1 n20 y16 ((u7 + k15)) (x6 + nI 1)) ∧ (b17 = true → post x6 y16)) y12 a0 x6 r13) y3 a11)
theorem hs_X2_classOf : yX2_classOf.cls ≠ "java/lang/invoke/MethodHandle" ∧ yX2_classOf.cls ≠ "java/lang/invoke/VarHandle" ∧ (parseMethodDescriptor yX2_classOf.desc).map (fun d => d.parameters.length) = some 1 := by decide +kernel
theorem hd_X2_classOf : yX2_classOf.cls = RX2 ∧ yX2_classOf.cls ≠ "java/lang/invoke/MethodHandle" ∧ yX2_classOf.cls ≠ "java/lang/invoke/VarHandle" ∧ (parseMethodDescriptor yX2_classOf.desc).map (fun d => d.parameters.length) = some 1 := by decide +kernel
set_option maxHeartbeats 4000000 in
theorem met_X2_classOf (l : Launch) (G : GP) (d : Nat) {B : Nat} {post : Int32 → HS → Prop} {y0 : HS} {a0 : Nat} {p1 : Option Nat} (hw : wp_X2_classOf G B post y0 a0 p1) : vx_Met l yX2_classOf (ws_ yX2_classOf cX2_classOf 3 (some .int)) (rmB (d + 3) B) (hPc G y0 [va_rf (some a0), va_rf p1]) (hQi G y0 post) (hX G y0 (fun _ _ _ => False)) B (20 * B) (HA y0) := by
  unfold wp_X2_classOf at hw
  refine hv_met (own := RX2) (by decide) rfl (by simp [lg_sl, va_rf_cat, int_cat, long_cat]) ?_
  intro p e s m args below meth c ls E hr hlocks hnm hE hK hI hl
  replace hl : lv_has ls 3 [(0, va_rf (some a0)), (1, va_rf p1)] := by simpa [lv_args, va_rf_cat, int_cat, long_cat] using hl
  have hu : 0 ≤ B := Nat.zero_le _
  refine lv_iconst (v := nI 0) E.1 E.2.1 dX2_classOf_0 rfl ?_
  refine lv_istore_n (lv' := [(2, .int (nI 0)), (0, va_rf (some a0)), (1, va_rf p1)]) E.1 E.2.1 dX2_classOf_1 rfl hl (Nat.le_of_ble_eq_true rfl) (by first | rfl | decide | (simp [va_rf_cat, int_cat, long_cat]; done) | (simp [va_rf_cat, int_cat, long_cat]; decide)) (fun ls hl => ?_)
  obtain ⟨I1, ⟨n8, hi22⟩, hb21⟩ := hw
  have L5 : ∀ (n2 : Nat) (y3 : HS) (u7 : Nat) (x6 : Int32), I1 n2 y3 u7 x6 → ∀ (H : Heap) (locs : List Loc) (ls : Array Slot), HI G y0 y3 s H locs → lv_has ls 3 [(0, va_rf (some a0)), (1, va_rf p1), (2, .int (x6))] → W p l e (rmB (d + 3) B) s m args below meth c H locs u7 (20 * u7) (vx_MQ below (hQi G y0 post) (hX G y0 (fun _ _ _ => False)) args s B (20 * B) (HA y0)) (F0 m 2 ls []) := by
    intro n2
    induction n2 using Nat.strongRecOn with
    | _ n2 ih4 =>
      intro y3 u7 x6 hw H locs ls hI hl
      replace hw := hb21 n2 y3 u7 x6 hw
      obtain ⟨hu, hw⟩ := hw
      refine lv_iload_n E.1 E.2.1 dX2_classOf_2 rfl (lv_at hl 2 rfl) ?_
      refine hv_aload_n (r := some a0) E.1 E.2.1 dX2_classOf_3 rfl (lv_at hl 0 rfl) ?_
      obtain ⟨f9, ⟨fs, hfs, hfk⟩, hw⟩ := hw
      refine hv_get (v := .int f9) E hK hI ciX2 7 (Nat.le_of_ble_eq_true rfl) q252 (fun _ h => h) (Or.inl hfs) hfk dX2_classOf_4 ?_
      refine lv_icmp_ge (tgt := 30) E.1 E.2.1 dX2_classOf_7 (by decide) (fun c10 => ?_) (fun c10 => ?_)
      · replace hw := hw.1 (c10)
        refine lv_iconst (v := (-1)) E.1 E.2.1 dX2_classOf_30 rfl ?_
        exact hv_ireti E hr hlocks hI hu hw dX2_classOf_31
      · replace hw := hw.2 (c10)
        refine hv_aload_n (r := some a0) E.1 E.2.1 dX2_classOf_10 rfl (lv_at hl 0 rfl) ?_
        refine lv_iload_n E.1 E.2.1 dX2_classOf_11 rfl (lv_at hl 2 rfl) ?_
        refine hv_aload_n (r := p1) E.1 E.2.1 dX2_classOf_12 rfl (lv_at hl 1 rfl) ?_
        obtain ⟨a11, ea11, hw⟩ := hw
        revert hl hw; subst ea11; intro hl hw
        obtain ⟨⟨fs14, hrv⟩, hw⟩ := hw
        obtain ⟨k15, hB, hw⟩ := hw
        have hq := hw
        clear hw
        refine hv_callq (u := u7) (B1 := k15) hI (vx_runV (As := []) (rest := [.int (x6), va_rf (some a0)]) E (met_J5_toCharArray l G (d) hq) (cwV 0 E.2.2.2.2 (lw_V q1059 q1060 q1061 q132 q1062) rfl rfl rfl hd_J5_toCharArray (rm_ok (by omega) (by decide))) (hv_preV hK hI hrv rfl) rfl rfl hl.1 rfl (lv_room (by first | rfl | decide | (simp [va_rf_cat, int_cat, long_cat]; done) | (simp [va_rf_cat, int_cat, long_cat]; decide))) dX2_classOf_13 (hv_fit (by first | exact hB | omega))) (fun _ _ _ _ _ h => h.elim) (fun r13 y12 H locs hw hI => ?_)
        have hu := hB
        obtain ⟨⟨fs18, hrv⟩, hw⟩ := hw
        have hq := hw
        clear hw
        refine hv_callz (u := ((u7 + k15))) (B1 := 0) hI (vx_runV (As := [.int (x6), va_rf r13]) (rest := []) E (met_X2_isCalled l G (d + 2) hq) (cwV 2 E.2.2.2.2 (lw_V q1075 q1076 q1077 q125 q1078) rfl rfl rfl hd_X2_isCalled (rm_ok (by omega) (by decide))) (hv_preV hK hI hrv rfl) rfl rfl hl.1 rfl (lv_room (by first | rfl | decide | (simp [va_rf_cat, int_cat, long_cat]; done) | (simp [va_rf_cat, int_cat, long_cat]; decide))) dX2_classOf_16 (hv_fit (by first | exact hu | omega))) (fun _ _ _ _ _ h => h.elim) (fun b17 y16 H locs hw hI => ?_)
        refine lv_if_eq (tgt := 24) E.1 E.2.1 dX2_classOf_19 (by decide) (fun c19 => ?_) (fun c19 => ?_)
        · replace hw := hw.1 (bi_z c19)
          refine lv_iinc (k := 2) (v := x6 + nI 1) (lv' := [(2, .int (x6 + nI 1)), (0, va_rf (some a0)), (1, va_rf (some a11))]) E.1 E.2.1 dX2_classOf_24 hl rfl rfl (Nat.le_of_ble_eq_true rfl) (by first | rfl | decide | (simp [va_rf_cat, int_cat, long_cat]; done) | (simp [va_rf_cat, int_cat, long_cat]; decide)) (fun ls hl => ?_)
          refine lv_goto (tgt := 2) E.1 E.2.1 dX2_classOf_27 (by decide) ?_
          obtain ⟨n20, hnn20, hin20⟩ := hw
          exact ih4 n20 hnn20 _ _ _ hin20 _ _ _ hI (lv_sub hl [1, 2, 0] rfl)
        · replace hw := hw.2 (bi_n c19)
          refine lv_iload_n E.1 E.2.1 dX2_classOf_22 rfl (lv_at hl 2 rfl) ?_
          exact hv_ireti E hr hlocks hI hu hw dX2_classOf_23
  exact L5 n8 _ _ _ hi22 _ _ _ hI (lv_sub hl [1, 2, 0] rfl)
/-- CaseGrouper$Edition.adds(Ljava/lang/String;I)I -/
def wp_X2_adds (G : GP) (B : Nat) (post : Int32 → HS → Prop) (y0 : HS) (a0 : Nat) (p1 : Option Nat) (i2 : Int32) : Prop := ∃ f1, fR y0 a0 1 5 f1 ∧ ∃ f2, fI y0 a0 1 7 f2 ∧ ∃ a3, p1 = some a3 ∧ (∃ fs6, rd G y0 a3 (ob 20 fs6)) ∧ ∃ k7, 0 + k7 ≤ B ∧ wp_J5_toCharArray G k7 (fun r5 y4 => ∃ a11, f1 = some a11 ∧ ∃ (n8 : Nat) (g9 : Nat → Option Nat) (a12 n13 : Nat) (g14 : Nat → Int32), y4.1 a11 = some (ar 7 n8 g9) ∧ vp_in f2 n8 ∧ r5 = some a12 ∧ y4.1 a12 = some (ai 4 n13 g14) ∧ ∀ y10, y10 = hput y4 a11 (ar 7 n8 (va_up g9 f2.toNatClampNeg (some a12))) → ∃ f15, fR y10 a0 1 6 f15 ∧ ∃ f16, fI y10 a0 1 7 f16 ∧ ∃ a20, f15 = some a20 ∧ ∃ (n17 : Nat) (g18 : Nat → Int32), y10.1 a20 = some (ai 5 n17 g18) ∧ vp_in f16 n17 ∧ ∀ y19, y19 = hput y10 a20 (ai 5 n17 (upd g18 f16.toNatClampNeg (vp_nar .short i2.toInt16.toInt32))) → ∃ f21, fI y19 a0 1 7 f21 ∧ ∃ fs23, y19.1 a0 = some (ob 1 fs23) ∧ 7 < fs23.length ∧ ∀ y22, y22 = hput y19 a0 (ob 1 (fs23.set 7 (.int (f21 + (nI 1))))) → ∃ f24, fI y22 a0 1 7 f24 ∧ post (f24 - (nI 1)) y22) y0 a3
theorem hs_X2_adds : yX2_adds.cls ≠ "java/lang/invoke/MethodHandle" ∧ yX2_adds.cls ≠ "java/lang/invoke/VarHandle" ∧ (parseMethodDescriptor yX2_adds.desc).map (fun d => d.parameters.length) = some 2 := by decide +kernel
theorem hd_X2_adds : yX2_adds.cls = RX2 ∧ yX2_adds.cls ≠ "java/lang/invoke/MethodHandle" ∧ yX2_adds.cls ≠ "java/lang/invoke/VarHandle" ∧ (parseMethodDescriptor yX2_adds.desc).map (fun d => d.parameters.length) = some 2 := by decide +kernel
set_option maxHeartbeats 4000000 in
theorem met_X2_adds (l : Launch) (G : GP) (d : Nat) {B : Nat} {post : Int32 → HS → Prop} {y0 : HS} {a0 : Nat} {p1 : Option Nat} {i2 : Int32} (hw : wp_X2_adds G B post y0 a0 p1 i2) : vx_Met l yX2_adds (ws_ yX2_adds cX2_adds 3 (some .int)) (rmB (d + 3) B) (hPc G y0 [va_rf (some a0), va_rf p1, .int (i2)]) (hQi G y0 post) (hX G y0 (fun _ _ _ => False)) B (20 * B) (HA y0) := by
  unfold wp_X2_adds at hw
  refine hv_met (own := RX2) (by decide) rfl (by simp [lg_sl, va_rf_cat, int_cat, long_cat]) ?_
  intro p e s m args below meth c ls E hr hlocks hnm hE hK hI hl
  replace hl : lv_has ls 3 [(0, va_rf (some a0)), (1, va_rf p1), (2, .int (i2))] := by simpa [lv_args, va_rf_cat, int_cat, long_cat] using hl
  have hu : 0 ≤ B := Nat.zero_le _
  refine hv_aload_n (r := some a0) E.1 E.2.1 dX2_adds_0 rfl (lv_at hl 0 rfl) ?_
  obtain ⟨f1, ⟨fs, hfs, hfk⟩, hw⟩ := hw
  refine hv_get (v := va_rf f1) E hK hI ciX2 5 (Nat.le_of_ble_eq_true rfl) q246 (fun _ h => h) (Or.inl hfs) hfk dX2_adds_1 ?_
  refine hv_aload_n (r := some a0) E.1 E.2.1 dX2_adds_4 rfl (lv_at hl 0 rfl) ?_
  obtain ⟨f2, ⟨fs, hfs, hfk⟩, hw⟩ := hw
  refine hv_get (v := .int f2) E hK hI ciX2 7 (Nat.le_of_ble_eq_true rfl) q252 (fun _ h => h) (Or.inl hfs) hfk dX2_adds_5 ?_
  refine hv_aload_n (r := p1) E.1 E.2.1 dX2_adds_8 rfl (lv_at hl 1 rfl) ?_
  obtain ⟨a3, ea3, hw⟩ := hw
  revert hl hw; subst ea3; intro hl hw
  obtain ⟨⟨fs6, hrv⟩, hw⟩ := hw
  obtain ⟨k7, hB, hw⟩ := hw
  have hq := hw
  clear hw
  refine hv_callq (u := 0) (B1 := k7) hI (vx_runV (As := []) (rest := [.int (f2), va_rf f1]) E (met_J5_toCharArray l G (d) hq) (cwV 0 E.2.2.2.2 (lw_V q1059 q1060 q1061 q132 q1062) rfl rfl rfl hd_J5_toCharArray (rm_ok (by omega) (by decide))) (hv_preV hK hI hrv rfl) rfl rfl hl.1 rfl (lv_room (by first | rfl | decide | (simp [va_rf_cat, int_cat, long_cat]; done) | (simp [va_rf_cat, int_cat, long_cat]; decide))) dX2_adds_9 (hv_fit (by first | exact hB | omega))) (fun _ _ _ _ _ h => h.elim) (fun r5 y4 H locs hw hI => ?_)
  have hu := hB
  obtain ⟨a11, ea11, hw⟩ := hw
  rw [ea11]
  obtain ⟨n8, g9, a12, n13, g14, hra, hin, hev, hrv, hw⟩ := hw
  rw [hev]
  refine hv_aast7 E hK hI hra hin hrv dX2_adds_12 (fun H locs hI => ?_)
  obtain ⟨y10, ey10⟩ : ∃ w, w = hput y4 a11 (ar 7 n8 (va_up g9 f2.toNatClampNeg (some a12))) := ⟨_, rfl⟩
  rw [← ey10] at hI
  replace hw := hw y10 ey10
  refine hv_aload_n (r := some a0) E.1 E.2.1 dX2_adds_13 rfl (lv_at hl 0 rfl) ?_
  obtain ⟨f15, ⟨fs, hfs, hfk⟩, hw⟩ := hw
  refine hv_get (v := va_rf f15) E hK hI ciX2 6 (Nat.le_of_ble_eq_true rfl) q248 (fun _ h => h) (Or.inl hfs) hfk dX2_adds_14 ?_
  refine hv_aload_n (r := some a0) E.1 E.2.1 dX2_adds_17 rfl (lv_at hl 0 rfl) ?_
  obtain ⟨f16, ⟨fs, hfs, hfk⟩, hw⟩ := hw
  refine hv_get (v := .int f16) E hK hI ciX2 7 (Nat.le_of_ble_eq_true rfl) q252 (fun _ h => h) (Or.inl hfs) hfk dX2_adds_18 ?_
  refine lv_iload_n E.1 E.2.1 dX2_adds_21 rfl (lv_at hl 2 rfl) ?_
  refine lv_i2s E.1 E.2.1 dX2_adds_22 rfl ?_
  obtain ⟨a20, ea20, hw⟩ := hw
  rw [ea20]
  obtain ⟨n17, g18, hra, hin, hw⟩ := hw
  refine hv_sast E hK hI hra hin dX2_adds_23 (fun H locs hI => ?_)
  obtain ⟨y19, ey19⟩ : ∃ w, w = hput y10 a20 (ai 5 n17 (upd g18 f16.toNatClampNeg (vp_nar .short i2.toInt16.toInt32))) := ⟨_, rfl⟩
  rw [← ey19] at hI
  replace hw := hw y19 ey19
  refine hv_aload_n (r := some a0) E.1 E.2.1 dX2_adds_24 rfl (lv_at hl 0 rfl) ?_
  refine hv_dup E.1 E.2.1 dX2_adds_25 ?_
  obtain ⟨f21, ⟨fs, hfs, hfk⟩, hw⟩ := hw
  refine hv_get (v := .int f21) E hK hI ciX2 7 (Nat.le_of_ble_eq_true rfl) q252 (fun _ h => h) (Or.inl hfs) hfk dX2_adds_26 ?_
  refine lv_iconst (v := nI 1) E.1 E.2.1 dX2_adds_29 rfl ?_
  refine lv_iadd E.1 E.2.1 dX2_adds_30 ?_
  obtain ⟨fs23, hfs, hln, hw⟩ := hw
  refine hv_put (v := .int (f21 + (nI 1))) E hK hI ciX2 7 (Nat.le_of_ble_eq_true rfl) q252 (fun _ h => h) rfl rfl rfl hfs hln dX2_adds_31 (fun H locs hI => ?_)
  obtain ⟨y22, ey22⟩ : ∃ w, w = hput y19 a0 (ob 1 (fs23.set 7 (.int (f21 + (nI 1))))) := ⟨_, rfl⟩
  rw [← ey22] at hI
  replace hw := hw y22 ey22
  refine hv_aload_n (r := some a0) E.1 E.2.1 dX2_adds_34 rfl (lv_at hl 0 rfl) ?_
  obtain ⟨f24, ⟨fs, hfs, hfk⟩, hw⟩ := hw
  refine hv_get (v := .int f24) E hK hI ciX2 7 (Nat.le_of_ble_eq_true rfl) q252 (fun _ h => h) (Or.inl hfs) hfk dX2_adds_35 ?_
  refine lv_iconst (v := nI 1) E.1 E.2.1 dX2_adds_38 rfl ?_
  refine lv_isub E.1 E.2.1 dX2_adds_39 ?_
  exact hv_ireti E hr hlocks hI hu hw dX2_adds_40
/-- CaseGrouper$Edition.turns(LCaseGrouper$Chapter;Ljava/lang/String;II)[I -/
def wp_X2_turns (G : GP) (B : Nat) (post : Option Nat → HS → Prop) (y0 : HS) (a0 : Nat) (p1 : Option Nat) (p2 : Option Nat) (i3 : Int32) (i4 : Int32) : Prop := 0 + 1 ≤ B ∧ ∀ a2, a2 = y0.2 → ∀ y1, y1 = hnew y0 (ob 18 [.int 0, va_rf none, .int 0]) → wp_J2_init G (fun y3 => ∃ k6, (0 + 1) + k6 ≤ B ∧ wp_J13_valueOf G k6 (fun r5 y4 => (∃ fs9, rd G y4 a2 (ob 18 fs9)) ∧ ∃ k10, ((0 + 1) + k6) + k10 ≤ B ∧ wp_J2_add G k10 (fun b8 y7 => ∃ I11 : Nat → HS → Nat → Int32 → Prop, (∃ n18, I11 n18 y7 ((((0 + 1) + k6) + k10)) (nI 0)) ∧ ∀ (n12 : Nat) (y13 : HS) (u17 : Nat) (x16 : Int32), I11 n12 y13 u17 x16 → u17 ≤ B ∧ ∃ a19, p1 = some a19 ∧ ∃ f20, fR y13 a19 7 3 f20 ∧ ∃ a21, f20 = some a21 ∧ (∃ fs24, rd G y13 a21 (ob 18 fs24)) ∧ wp_J2_size G (fun x23 y22 => (x23 ≤ x16 → (∃ fs28, rd G y22 a2 (ob 18 fs28)) ∧ wp_J2_size G (fun x27 y26 => ∃ n31, x27 = nI n31 ∧ n31 < 2 ^ 20 ∧ u17 + (1 + n31 / 20) ≤ B ∧ ∀ a30, a30 = y26.2 → ∀ y29, y29 = hnew y26 (ai 0 n31 (fun _ => 0)) → ∃ I32 : Nat → HS → Nat → Int32 → Prop, (∃ n39, I32 n39 y29 ((u17 + (1 + n31 / 20))) (nI 0)) ∧ ∀ (n33 : Nat) (y34 : HS) (u38 : Nat) (x37 : Int32), I32 n33 y34 u38 x37 → u38 ≤ B ∧ ∃ (n40 : Nat) (g41 : Nat → Int32), rd G y34 a30 (ai 0 n40 g41) ∧ ((nI n40) ≤ x37 → post (some a30) y34) ∧ (¬ (nI n40) ≤ x37 → (∃ fs45, rd G y34 a2 (ob 18 fs45)) ∧ wp_J2_get G (fun r44 y43 => isOf G y43 r44 21 ∧ ∃ a46, r44 = some a46 ∧ (∃ fs49, rd G y43 a46 (ob 21 fs49)) ∧ wp_J13_intValue G (fun x48 y47 => ∃ (n50 : Nat) (g51 : Nat → Int32), y47.1 a30 = some (ai 0 n50 g51) ∧ vp_in x37 n50 ∧ ∀ y52, y52 = hput y47 a30 (ai 0 n50 (upd g51 x37.toNatClampNeg x48)) → ∃ n53, n53 < n33 ∧ I32 n53 y52 u38 (x37 + nI 1)) y43 a46) y34 a2 x37)) y22 a2) ∧ (¬ x23 ≤ x16 → ∃ J56 : HS → Nat → (Option Nat) → Int32 → Prop, (∀ (y58 : HS) (u61 : Nat) (r59 : Option Nat) (x60 : Int32), J56 y58 u61 r59 x60 → u61 ≤ B ∧ ∃ a62, r59 = some a62 ∧ (∃ fs65, rd G y58 a62 (ob 13 fs65)) ∧ wp_X15_isOfCodes G (fun b64 y63 => (b64 = true → ∃ n67, n67 < n12 ∧ I11 n67 y63 u61 (x16 + nI 1)) ∧ (b64 = false → ∃ f68, fR y63 a62 13 0 f68 ∧ ∃ a69, f68 = some a69 ∧ (∃ fs72, rd G y63 a69 (ob 20 fs72)) ∧ wp_J5_equals G (fun b71 y70 => (b71 = false → ∃ n74, n74 < n12 ∧ I11 n74 y70 u61 (x16 + nI 1)) ∧ (b71 = true → wp_X1_within G (fun b76 y75 => (b76 = false → ∃ n78, n78 < n12 ∧ I11 n78 y75 u61 (x16 + nI 1)) ∧ (b76 = true → ∃ k81, u61 + k81 ≤ B ∧ wp_J13_valueOf G k81 (fun r80 y79 => (∃ fs84, rd G y79 a2 (ob 18 fs84)) ∧ ∃ k85, (u61 + k81) + k85 ≤ B ∧ wp_J2_add G k85 (fun b83 y82 => ∃ n86, n86 < n12 ∧ I11 n86 y82 (((u61 + k81) + k85)) (x16 + nI 1)) y79 a2 r80) y75 x60)) y70 x60 i3 i4)) y63 a69 p2)) y58 a62) ∧ (∃ f87, fR y22 a19 7 3 f87 ∧ ∃ a88, f87 = some a88 ∧ (∃ fs91, rd G y22 a88 (ob 18 fs91)) ∧ wp_J2_get G (fun r90 y89 => isOf G y89 r90 13 ∧ ∃ a92, r90 = some a92 ∧ ∃ f93, fI y89 a92 13 2 f93 ∧ (¬ f93 = (nI 60) → ∃ f95, fI y89 a92 13 3 f95 ∧ J56 y89 u17 (some a92) (f95 + (nI 1))) ∧ (f93 = (nI 60) → ∃ f96, fI y89 a92 13 3 f96 ∧ J56 y89 u17 (some a92) f96)) y22 a88 x16))) y13 a21) y4 a2 r5) y3 i3) y1 a2
theorem hs_X2_turns : yX2_turns.cls ≠ "java/lang/invoke/MethodHandle" ∧ yX2_turns.cls ≠ "java/lang/invoke/VarHandle" ∧ (parseMethodDescriptor yX2_turns.desc).map (fun d => d.parameters.length) = some 4 := by decide +kernel
theorem hd_X2_turns : yX2_turns.cls = RX2 ∧ yX2_turns.cls ≠ "java/lang/invoke/MethodHandle" ∧ yX2_turns.cls ≠ "java/lang/invoke/VarHandle" ∧ (parseMethodDescriptor yX2_turns.desc).map (fun d => d.parameters.length) = some 4 := by decide +kernel
set_option maxHeartbeats 4000000 in
theorem met_X2_turns (l : Launch) (G : GP) (d : Nat) {B : Nat} {post : Option Nat → HS → Prop} {y0 : HS} {a0 : Nat} {p1 : Option Nat} {p2 : Option Nat} {i3 : Int32} {i4 : Int32} (hw : wp_X2_turns G B post y0 a0 p1 p2 i3 i4) : vx_Met l yX2_turns (ws_ yX2_turns cX2_turns 9 (some (.array .int))) (rmB (d + 7) B) (hPc G y0 [va_rf (some a0), va_rf p1, va_rf p2, .int (i3), .int (i4)]) (hQq G y0 post) (hX G y0 (fun _ _ _ => False)) B (20 * B) (HA y0) := by
  unfold wp_X2_turns at hw
  refine hv_met (own := RX2) (by decide) rfl (by simp [lg_sl, va_rf_cat, int_cat, long_cat]) ?_
  intro p e s m args below meth c ls E hr hlocks hnm hE hK hI hl
  replace hl : lv_has ls 9 [(0, va_rf (some a0)), (1, va_rf p1), (2, va_rf p2), (3, .int (i3)), (4, .int (i4))] := by simpa [lv_args, va_rf_cat, int_cat, long_cat] using hl
  have hu : 0 ≤ B := Nat.zero_le _
  obtain ⟨hu, hw⟩ := hw
  refine hv_new (fs := [.int 0, va_rf none, .int 0]) E hK hI ciJ2 q202 q203 q124 (df18) (Nat.le_of_ble_eq_true rfl) hu dX2_turns_0 (fun H hI => ?_)
  obtain ⟨a2, ea2⟩ : ∃ w, w = y0.2 := ⟨_, rfl⟩
  obtain ⟨y1, ey1⟩ : ∃ w, w = hnew y0 (ob 18 [.int 0, va_rf none, .int 0]) := ⟨_, rfl⟩
  rw [← ea2]
  rw [← ey1] at hI
  replace hw := hw a2 ea2 y1 ey1
  refine hv_dup E.1 E.2.1 dX2_turns_3 ?_
  have hq := hw
  clear hw
  refine hv_callv (u := ((0 + 1))) (B1 := 0) hI (vx_runI (b := a2) (As := []) (rest := [va_rf (some a2)]) E (met_J2_init l G (d + 3) hq) (cwI 0 E.2.2.2.2 (lw_meth q206) rfl rfl rfl (E.2.2.2.2 _ q124) (E.2.2.2.2 _ q204) (E.2.2.2.2 _ q205) rfl hs_J2_init (rm_ok (by omega) (by decide))) (hv_preS hK hI) rfl rfl hl.1 rfl (lv_room (by first | rfl | decide | (simp [va_rf_cat, int_cat, long_cat]; done) | (simp [va_rf_cat, int_cat, long_cat]; decide))) dX2_turns_4 (hv_fit (by first | exact hu | omega))) (fun _ _ _ _ _ h => h.elim) (fun y3 H locs hw hI => ?_)
  refine hv_astore (r := some a2) (lv' := [(5, va_rf (some a2)), (0, va_rf (some a0)), (1, va_rf p1), (2, va_rf p2), (3, .int (i3)), (4, .int (i4))]) E.1 E.2.1 dX2_turns_7 hl (Nat.le_of_ble_eq_true rfl) (by first | rfl | decide | (simp [va_rf_cat, int_cat, long_cat]; done) | (simp [va_rf_cat, int_cat, long_cat]; decide)) (fun ls hl => ?_)
  refine hv_aload (r := some a2) E.1 E.2.1 dX2_turns_9 (lv_at hl 0 rfl) ?_
  refine lv_iload_n E.1 E.2.1 dX2_turns_11 rfl (lv_at hl 4 rfl) ?_
  obtain ⟨k6, hB, hw⟩ := hw
  have hq := hw
  clear hw
  refine hv_callq (u := ((0 + 1))) (B1 := k6) hI (vx_runS (As := [.int (i3)]) (rest := [va_rf (some a2)]) E (met_J13_valueOf l G (d + 3) hq) (va_cwS 1 E.2.2.2.2 (lw_S q1284 q540 q141 q541) rfl rfl rfl hs_J13_valueOf (rm_ok (by omega) (by decide))) (hv_preS hK hI) rfl rfl hl.1 rfl (lv_room (by first | rfl | decide | (simp [va_rf_cat, int_cat, long_cat]; done) | (simp [va_rf_cat, int_cat, long_cat]; decide))) dX2_turns_12 (hv_fit (by first | exact hB | omega))) (fun _ _ _ _ _ h => h.elim) (fun r5 y4 H locs hw hI => ?_)
  have hu := hB
  obtain ⟨⟨fs9, hrv⟩, hw⟩ := hw
  obtain ⟨k10, hB, hw⟩ := hw
  have hq := hw
  clear hw
  refine hv_callz (u := (((0 + 1) + k6))) (B1 := k10) hI (vx_runV (As := [va_rf r5]) (rest := []) E (met_J2_add l G (d) hq) (cwV 1 E.2.2.2.2 (lw_V q1242 q910 q911 q124 q912) rfl rfl rfl hd_J2_add (rm_ok (by omega) (by decide))) (hv_preV hK hI hrv rfl) rfl rfl hl.1 rfl (lv_room (by first | rfl | decide | (simp [va_rf_cat, int_cat, long_cat]; done) | (simp [va_rf_cat, int_cat, long_cat]; decide))) dX2_turns_15 (hv_fit (by first | exact hB | omega))) (fun _ _ _ _ _ h => h.elim) (fun b8 y7 H locs hw hI => ?_)
  have hu := hB
  refine lv_pop E.1 E.2.1 dX2_turns_18 rfl ?_
  refine lv_iconst (v := nI 0) E.1 E.2.1 dX2_turns_19 rfl ?_
  refine lv_istore (lv' := [(6, .int (nI 0)), (5, va_rf (some a2)), (0, va_rf (some a0)), (1, va_rf p1), (2, va_rf p2), (3, .int (i3)), (4, .int (i4))]) E.1 E.2.1 dX2_turns_20 hl (Nat.le_of_ble_eq_true rfl) (by first | rfl | decide | (simp [va_rf_cat, int_cat, long_cat]; done) | (simp [va_rf_cat, int_cat, long_cat]; decide)) (fun ls hl => ?_)
  obtain ⟨I11, ⟨n18, hi99⟩, hb98⟩ := hw
  have L15 : ∀ (n12 : Nat) (y13 : HS) (u17 : Nat) (x16 : Int32), I11 n12 y13 u17 x16 → ∀ (H : Heap) (locs : List Loc) (ls : Array Slot), HI G y0 y13 s H locs → lv_has ls 9 [(1, va_rf p1), (2, va_rf p2), (3, .int (i3)), (4, .int (i4)), (5, va_rf (some a2)), (6, .int (x16))] → W p l e (rmB (d + 7) B) s m args below meth c H locs u17 (20 * u17) (vx_MQ below (hQq G y0 post) (hX G y0 (fun _ _ _ => False)) args s B (20 * B) (HA y0)) (F0 m 22 ls []) := by
    intro n12
    induction n12 using Nat.strongRecOn with
    | _ n12 ih14 =>
      intro y13 u17 x16 hw H locs ls hI hl
      replace hw := hb98 n12 y13 u17 x16 hw
      obtain ⟨hu, hw⟩ := hw
      refine lv_iload E.1 E.2.1 dX2_turns_22 (lv_at hl 5 rfl) ?_
      refine hv_aload_n (r := p1) E.1 E.2.1 dX2_turns_24 rfl (lv_at hl 0 rfl) ?_
      obtain ⟨a19, ea19, hw⟩ := hw
      revert hl hw; subst ea19; intro hl hw
      obtain ⟨f20, ⟨fs, hfs, hfk⟩, hw⟩ := hw
      refine hv_getN (v := va_rf f20) E hK hI ciX9 3 (Nat.le_of_ble_eq_true rfl) q815 (fun _ h => h) (Or.inl hfs) hfk dX2_turns_25 ?_
      obtain ⟨a21, ea21, hw⟩ := hw
      revert hl hw; subst ea21; intro hl hw
      obtain ⟨⟨fs24, hrv⟩, hw⟩ := hw
      have hq := hw
      clear hw
      refine hv_calli (u := u17) (B1 := 0) hI (vx_runV (As := []) (rest := [.int (x16)]) E (met_J2_size l G (d + 6) hq) (cwV 0 E.2.2.2.2 (lw_V q783 q752 q753 q124 q754) rfl rfl rfl hd_J2_size (rm_ok (by omega) (by decide))) (hv_preV hK hI hrv rfl) rfl rfl hl.1 rfl (lv_room (by first | rfl | decide | (simp [va_rf_cat, int_cat, long_cat]; done) | (simp [va_rf_cat, int_cat, long_cat]; decide))) dX2_turns_28 (hv_fit (by first | exact hu | omega))) (fun _ _ _ _ _ h => h.elim) (fun x23 y22 H locs hw hI => ?_)
      refine lv_icmp_ge (tgt := 123) E.1 E.2.1 dX2_turns_31 (by decide) (fun c25 => ?_) (fun c25 => ?_)
      · replace hw := hw.1 (c25)
        refine hv_aload (r := some a2) E.1 E.2.1 dX2_turns_123 (lv_at hl 4 rfl) ?_
        obtain ⟨⟨fs28, hrv⟩, hw⟩ := hw
        have hq := hw
        clear hw
        refine hv_calli (u := u17) (B1 := 0) hI (vx_runV (As := []) (rest := []) E (met_J2_size l G (d + 6) hq) (cwV 0 E.2.2.2.2 (lw_V q783 q752 q753 q124 q754) rfl rfl rfl hd_J2_size (rm_ok (by omega) (by decide))) (hv_preV hK hI hrv rfl) rfl rfl hl.1 rfl (lv_room (by first | rfl | decide | (simp [va_rf_cat, int_cat, long_cat]; done) | (simp [va_rf_cat, int_cat, long_cat]; decide))) dX2_turns_125 (hv_fit (by first | exact hu | omega))) (fun _ _ _ _ _ h => h.elim) (fun x27 y26 H locs hw hI => ?_)
        obtain ⟨n31, eN, hN, hw⟩ := hw
        obtain ⟨hu, hw⟩ := hw
        refine hv_newa (N := n31) (t := 0) (ty := .int) (atype := .int) E hK hI rfl rfl q1369 rfl rfl eN hN (by decide) hu dX2_turns_128 (fun H hI => ?_)
        obtain ⟨a30, ea30⟩ : ∃ w, w = y26.2 := ⟨_, rfl⟩
        obtain ⟨y29, ey29⟩ : ∃ w, w = hnew y26 (ai 0 n31 (fun _ => 0)) := ⟨_, rfl⟩
        rw [← ea30]
        rw [← ey29] at hI
        replace hw := hw a30 ea30 y29 ey29
        refine hv_astore (r := some a30) (lv' := [(6, va_rf (some a30)), (1, va_rf (some a19)), (2, va_rf p2), (3, .int (i3)), (4, .int (i4)), (5, va_rf (some a2))]) E.1 E.2.1 dX2_turns_130 hl (Nat.le_of_ble_eq_true rfl) (by first | rfl | decide | (simp [va_rf_cat, int_cat, long_cat]; done) | (simp [va_rf_cat, int_cat, long_cat]; decide)) (fun ls hl => ?_)
        refine lv_iconst (v := nI 0) E.1 E.2.1 dX2_turns_132 rfl ?_
        refine lv_istore (lv' := [(7, .int (nI 0)), (6, va_rf (some a30)), (1, va_rf (some a19)), (2, va_rf p2), (3, .int (i3)), (4, .int (i4)), (5, va_rf (some a2))]) E.1 E.2.1 dX2_turns_133 hl (Nat.le_of_ble_eq_true rfl) (by first | rfl | decide | (simp [va_rf_cat, int_cat, long_cat]; done) | (simp [va_rf_cat, int_cat, long_cat]; decide)) (fun ls hl => ?_)
        obtain ⟨I32, ⟨n39, hi55⟩, hb54⟩ := hw
        have L36 : ∀ (n33 : Nat) (y34 : HS) (u38 : Nat) (x37 : Int32), I32 n33 y34 u38 x37 → ∀ (H : Heap) (locs : List Loc) (ls : Array Slot), HI G y0 y34 s H locs → lv_has ls 9 [(5, va_rf (some a2)), (6, va_rf (some a30)), (7, .int (x37))] → W p l e (rmB (d + 7) B) s m args below meth c H locs u38 (20 * u38) (vx_MQ below (hQq G y0 post) (hX G y0 (fun _ _ _ => False)) args s B (20 * B) (HA y0)) (F0 m 135 ls []) := by
          intro n33
          induction n33 using Nat.strongRecOn with
          | _ n33 ih35 =>
            intro y34 u38 x37 hw H locs ls hI hl
            replace hw := hb54 n33 y34 u38 x37 hw
            obtain ⟨hu, hw⟩ := hw
            refine lv_iload E.1 E.2.1 dX2_turns_135 (lv_at hl 2 rfl) ?_
            refine hv_aload (r := some a30) E.1 E.2.1 dX2_turns_137 (lv_at hl 1 rfl) ?_
            obtain ⟨n40, g41, hra, hw⟩ := hw
            refine hv_alen (t := 0) E hK hI hra rfl dX2_turns_139 ?_
            refine lv_icmp_ge (tgt := 167) E.1 E.2.1 dX2_turns_140 (by decide) (fun c42 => ?_) (fun c42 => ?_)
            · replace hw := hw.1 (c42)
              refine hv_aload (r := some a30) E.1 E.2.1 dX2_turns_167 (lv_at hl 1 rfl) ?_
              exact hv_aret (r := some a30) E hr (Or.inr ⟨_, rfl⟩) hlocks hI hu hw dX2_turns_169
            · replace hw := hw.2 (c42)
              refine hv_aload (r := some a30) E.1 E.2.1 dX2_turns_143 (lv_at hl 1 rfl) ?_
              refine lv_iload E.1 E.2.1 dX2_turns_145 (lv_at hl 2 rfl) ?_
              refine hv_aload (r := some a2) E.1 E.2.1 dX2_turns_147 (lv_at hl 0 rfl) ?_
              refine lv_iload E.1 E.2.1 dX2_turns_149 (lv_at hl 2 rfl) ?_
              obtain ⟨⟨fs45, hrv⟩, hw⟩ := hw
              have hq := hw
              clear hw
              refine hv_callq (u := u38) (B1 := 0) hI (vx_runV (As := [.int (x37)]) (rest := [.int (x37), va_rf (some a30)]) E (met_J2_get l G (d + 4) hq) (cwV 1 E.2.2.2.2 (lw_V q784 q785 q786 q124 q787) rfl rfl rfl hd_J2_get (rm_ok (by omega) (by decide))) (hv_preV hK hI hrv rfl) rfl rfl hl.1 rfl (lv_room (by first | rfl | decide | (simp [va_rf_cat, int_cat, long_cat]; done) | (simp [va_rf_cat, int_cat, long_cat]; decide))) dX2_turns_151 (hv_fit (by first | exact hu | omega))) (fun _ _ _ _ _ h => h.elim) (fun r44 y43 H locs hw hI => ?_)
              obtain ⟨hof, hw⟩ := hw
              refine hv_castC (cn := 21) E hK hI (by decide) q1286 hof dX2_turns_154 ?_
              obtain ⟨a46, ea46, hw⟩ := hw
              revert hl hw; subst ea46; intro hl hw
              obtain ⟨⟨fs49, hrv⟩, hw⟩ := hw
              have hq := hw
              clear hw
              refine hv_calli (u := u38) (B1 := 0) hI (vx_runV (As := []) (rest := [.int (x37), va_rf (some a30)]) E (met_J13_intValue l G (d + 6) hq) (cwV 0 E.2.2.2.2 (lw_V q1287 q993 q994 q141 q995) rfl rfl rfl hd_J13_intValue (rm_ok (by omega) (by decide))) (hv_preV hK hI hrv rfl) rfl rfl hl.1 rfl (lv_room (by first | rfl | decide | (simp [va_rf_cat, int_cat, long_cat]; done) | (simp [va_rf_cat, int_cat, long_cat]; decide))) dX2_turns_157 (hv_fit (by first | exact hu | omega))) (fun _ _ _ _ _ h => h.elim) (fun x48 y47 H locs hw hI => ?_)
              obtain ⟨n50, g51, hra, hin, hw⟩ := hw
              refine hv_iast E hK hI hra hin dX2_turns_160 (fun H locs hI => ?_)
              obtain ⟨y52, ey52⟩ : ∃ w, w = hput y47 a30 (ai 0 n50 (upd g51 x37.toNatClampNeg x48)) := ⟨_, rfl⟩
              rw [← ey52] at hI
              replace hw := hw y52 ey52
              refine lv_iinc (k := 2) (v := x37 + nI 1) (lv' := [(7, .int (x37 + nI 1)), (5, va_rf (some a2)), (6, va_rf (some a30))]) E.1 E.2.1 dX2_turns_161 hl rfl rfl (Nat.le_of_ble_eq_true rfl) (by first | rfl | decide | (simp [va_rf_cat, int_cat, long_cat]; done) | (simp [va_rf_cat, int_cat, long_cat]; decide)) (fun ls hl => ?_)
              refine lv_goto (tgt := 135) E.1 E.2.1 dX2_turns_164 (by decide) ?_
              obtain ⟨n53, hnn53, hin53⟩ := hw
              exact ih35 n53 hnn53 _ _ _ hin53 _ _ _ hI (lv_sub hl [1, 2, 0] rfl)
        exact L36 n39 _ _ _ hi55 _ _ _ hI (lv_sub hl [6, 1, 0] rfl)
      · replace hw := hw.2 (c25)
        obtain ⟨J56, hj97, hw⟩ := hw
        have jh57 : ∀ (y58 : HS) (u61 : Nat) (r59 : Option Nat) (x60 : Int32), J56 y58 u61 r59 x60 → ∀ (H : Heap) (locs : List Loc) (ls : Array Slot), HI G y0 y58 s H locs → lv_has ls 9 [(1, va_rf (some a19)), (2, va_rf p2), (3, .int (i3)), (4, .int (i4)), (5, va_rf (some a2)), (6, .int (x16)), (7, va_rf r59)] → W p l e (rmB (d + 7) B) s m args below meth c H locs u61 (20 * u61) (vx_MQ below (hQq G y0 post) (hX G y0 (fun _ _ _ => False)) args s B (20 * B) (HA y0)) (F0 m 73 ls [.int (x60)]) := by
          intro y58 u61 r59 x60 hw H locs ls hI hl
          replace hw := hj97 y58 u61 r59 x60 hw
          obtain ⟨hu, hw⟩ := hw
          refine lv_istore (lv' := [(8, .int (x60)), (1, va_rf (some a19)), (2, va_rf p2), (3, .int (i3)), (4, .int (i4)), (5, va_rf (some a2)), (6, .int (x16)), (7, va_rf r59)]) E.1 E.2.1 dX2_turns_73 hl (Nat.le_of_ble_eq_true rfl) (by first | rfl | decide | (simp [va_rf_cat, int_cat, long_cat]; done) | (simp [va_rf_cat, int_cat, long_cat]; decide)) (fun ls hl => ?_)
          refine hv_aload (r := r59) E.1 E.2.1 dX2_turns_75 (lv_at hl 7 rfl) ?_
          obtain ⟨a62, ea62, hw⟩ := hw
          revert hl hw; subst ea62; intro hl hw
          obtain ⟨⟨fs65, hrv⟩, hw⟩ := hw
          have hq := hw
          clear hw
          refine hv_callz (u := u61) (B1 := 0) hI (vx_runV (As := []) (rest := []) E (met_X15_isOfCodes l G (d + 6) hq) (cwV 0 E.2.2.2.2 (lw_V q1278 q1147 q1148 q159 q1149) rfl rfl rfl hd_X15_isOfCodes (rm_ok (by omega) (by decide))) (hv_preV hK hI hrv rfl) rfl rfl hl.1 rfl (lv_room (by first | rfl | decide | (simp [va_rf_cat, int_cat, long_cat]; done) | (simp [va_rf_cat, int_cat, long_cat]; decide))) dX2_turns_77 (hv_fit (by first | exact hu | omega))) (fun _ _ _ _ _ h => h.elim) (fun b64 y63 H locs hw hI => ?_)
          refine lv_if_ne (tgt := 117) E.1 E.2.1 dX2_turns_80 (by decide) (fun c66 => ?_) (fun c66 => ?_)
          · replace hw := hw.1 (bi_n c66)
            refine lv_iinc (k := 6) (v := x16 + nI 1) (lv' := [(6, .int (x16 + nI 1)), (8, .int (x60)), (1, va_rf (some a19)), (2, va_rf p2), (3, .int (i3)), (4, .int (i4)), (5, va_rf (some a2)), (7, va_rf (some a62))]) E.1 E.2.1 dX2_turns_117 hl rfl rfl (Nat.le_of_ble_eq_true rfl) (by first | rfl | decide | (simp [va_rf_cat, int_cat, long_cat]; done) | (simp [va_rf_cat, int_cat, long_cat]; decide)) (fun ls hl => ?_)
            refine lv_goto (tgt := 22) E.1 E.2.1 dX2_turns_120 (by decide) ?_
            obtain ⟨n67, hnn67, hin67⟩ := hw
            exact ih14 n67 hnn67 _ _ _ hin67 _ _ _ hI (lv_sub hl [2, 3, 4, 5, 6, 0] rfl)
          · replace hw := hw.2 (bi_z c66)
            refine hv_aload (r := some a62) E.1 E.2.1 dX2_turns_83 (lv_at hl 7 rfl) ?_
            obtain ⟨f68, ⟨fs, hfs, hfk⟩, hw⟩ := hw
            refine hv_getN (v := va_rf f68) E hK hI ciX15 0 (Nat.le_of_ble_eq_true rfl) q1156 (fun _ h => h) (Or.inl hfs) hfk dX2_turns_85 ?_
            refine hv_aload_n (r := p2) E.1 E.2.1 dX2_turns_88 rfl (lv_at hl 2 rfl) ?_
            obtain ⟨a69, ea69, hw⟩ := hw
            revert hl hw; subst ea69; intro hl hw
            obtain ⟨⟨fs72, hrv⟩, hw⟩ := hw
            have hq := hw
            clear hw
            refine hv_callz (u := u61) (B1 := 0) hI (vx_runV (As := [va_rf p2]) (rest := []) E (met_J5_equals l G (d + 5) hq) (cwV 1 E.2.2.2.2 (lw_V q797 q737 q738 q132 q739) rfl rfl rfl hd_J5_equals (rm_ok (by omega) (by decide))) (hv_preV hK hI hrv rfl) rfl rfl hl.1 rfl (lv_room (by first | rfl | decide | (simp [va_rf_cat, int_cat, long_cat]; done) | (simp [va_rf_cat, int_cat, long_cat]; decide))) dX2_turns_89 (hv_fit (by first | exact hu | omega))) (fun _ _ _ _ _ h => h.elim) (fun b71 y70 H locs hw hI => ?_)
            refine lv_if_eq (tgt := 117) E.1 E.2.1 dX2_turns_92 (by decide) (fun c73 => ?_) (fun c73 => ?_)
            · replace hw := hw.1 (bi_z c73)
              refine lv_iinc (k := 6) (v := x16 + nI 1) (lv' := [(6, .int (x16 + nI 1)), (8, .int (x60)), (1, va_rf (some a19)), (2, va_rf p2), (3, .int (i3)), (4, .int (i4)), (5, va_rf (some a2)), (7, va_rf (some a62))]) E.1 E.2.1 dX2_turns_117 hl rfl rfl (Nat.le_of_ble_eq_true rfl) (by first | rfl | decide | (simp [va_rf_cat, int_cat, long_cat]; done) | (simp [va_rf_cat, int_cat, long_cat]; decide)) (fun ls hl => ?_)
              refine lv_goto (tgt := 22) E.1 E.2.1 dX2_turns_120 (by decide) ?_
              obtain ⟨n74, hnn74, hin74⟩ := hw
              exact ih14 n74 hnn74 _ _ _ hin74 _ _ _ hI (lv_sub hl [2, 3, 4, 5, 6, 0] rfl)
            · replace hw := hw.2 (bi_n c73)
              refine lv_iload E.1 E.2.1 dX2_turns_95 (lv_at hl 0 rfl) ?_
              refine lv_iload_n E.1 E.2.1 dX2_turns_97 rfl (lv_at hl 3 rfl) ?_
              refine lv_iload E.1 E.2.1 dX2_turns_98 (lv_at hl 4 rfl) ?_
              have hq := hw
              clear hw
              refine hv_callz (u := u61) (B1 := 0) hI (vx_runSN (As := [.int (x60), .int (i3), .int (i4)]) (rest := []) E (met_X1_within l G (d + 6) hq) ⟨va_cnB 3 E.2.2.2.2 (lw_meth q182) rfl rfl rfl (hK.2.2.2.2.1 _ q1285 rfl) (E.2.2.2.2 _ q121) hs_X1_within (rm_ok (by omega) (by decide)), E.2.2.2.2 _ q181, trivial⟩ (hv_preS hK hI) rfl rfl hl.1 rfl (lv_room (by first | rfl | decide | (simp [va_rf_cat, int_cat, long_cat]; done) | (simp [va_rf_cat, int_cat, long_cat]; decide))) dX2_turns_100 (hv_fit (by first | exact hu | omega))) (fun _ _ _ _ _ h => h.elim) (fun b76 y75 H locs hw hI => ?_)
              refine lv_if_eq (tgt := 117) E.1 E.2.1 dX2_turns_103 (by decide) (fun c77 => ?_) (fun c77 => ?_)
              · replace hw := hw.1 (bi_z c77)
                refine lv_iinc (k := 6) (v := x16 + nI 1) (lv' := [(6, .int (x16 + nI 1)), (8, .int (x60)), (1, va_rf (some a19)), (2, va_rf p2), (3, .int (i3)), (4, .int (i4)), (5, va_rf (some a2)), (7, va_rf (some a62))]) E.1 E.2.1 dX2_turns_117 hl rfl rfl (Nat.le_of_ble_eq_true rfl) (by first | rfl | decide | (simp [va_rf_cat, int_cat, long_cat]; done) | (simp [va_rf_cat, int_cat, long_cat]; decide)) (fun ls hl => ?_)
                refine lv_goto (tgt := 22) E.1 E.2.1 dX2_turns_120 (by decide) ?_
                obtain ⟨n78, hnn78, hin78⟩ := hw
                exact ih14 n78 hnn78 _ _ _ hin78 _ _ _ hI (lv_sub hl [2, 3, 4, 5, 6, 0] rfl)
              · replace hw := hw.2 (bi_n c77)
                refine hv_aload (r := some a2) E.1 E.2.1 dX2_turns_106 (lv_at hl 5 rfl) ?_
                refine lv_iload E.1 E.2.1 dX2_turns_108 (lv_at hl 0 rfl) ?_
                obtain ⟨k81, hB, hw⟩ := hw
                have hq := hw
                clear hw
                refine hv_callq (u := u61) (B1 := k81) hI (vx_runS (As := [.int (x60)]) (rest := [va_rf (some a2)]) E (met_J13_valueOf l G (d + 3) hq) (va_cwS 1 E.2.2.2.2 (lw_S q1284 q540 q141 q541) rfl rfl rfl hs_J13_valueOf (rm_ok (by omega) (by decide))) (hv_preS hK hI) rfl rfl hl.1 rfl (lv_room (by first | rfl | decide | (simp [va_rf_cat, int_cat, long_cat]; done) | (simp [va_rf_cat, int_cat, long_cat]; decide))) dX2_turns_110 (hv_fit (by first | exact hB | omega))) (fun _ _ _ _ _ h => h.elim) (fun r80 y79 H locs hw hI => ?_)
                have hu := hB
                obtain ⟨⟨fs84, hrv⟩, hw⟩ := hw
                obtain ⟨k85, hB, hw⟩ := hw
                have hq := hw
                clear hw
                refine hv_callz (u := ((u61 + k81))) (B1 := k85) hI (vx_runV (As := [va_rf r80]) (rest := []) E (met_J2_add l G (d) hq) (cwV 1 E.2.2.2.2 (lw_V q1242 q910 q911 q124 q912) rfl rfl rfl hd_J2_add (rm_ok (by omega) (by decide))) (hv_preV hK hI hrv rfl) rfl rfl hl.1 rfl (lv_room (by first | rfl | decide | (simp [va_rf_cat, int_cat, long_cat]; done) | (simp [va_rf_cat, int_cat, long_cat]; decide))) dX2_turns_113 (hv_fit (by first | exact hB | omega))) (fun _ _ _ _ _ h => h.elim) (fun b83 y82 H locs hw hI => ?_)
                have hu := hB
                refine lv_pop E.1 E.2.1 dX2_turns_116 rfl ?_
                refine lv_iinc (k := 6) (v := x16 + nI 1) (lv' := [(6, .int (x16 + nI 1)), (8, .int (x60)), (1, va_rf (some a19)), (2, va_rf p2), (3, .int (i3)), (4, .int (i4)), (5, va_rf (some a2)), (7, va_rf (some a62))]) E.1 E.2.1 dX2_turns_117 hl rfl rfl (Nat.le_of_ble_eq_true rfl) (by first | rfl | decide | (simp [va_rf_cat, int_cat, long_cat]; done) | (simp [va_rf_cat, int_cat, long_cat]; decide)) (fun ls hl => ?_)
                refine lv_goto (tgt := 22) E.1 E.2.1 dX2_turns_120 (by decide) ?_
                obtain ⟨n86, hnn86, hin86⟩ := hw
                exact ih14 n86 hnn86 _ _ _ hin86 _ _ _ hI (lv_sub hl [2, 3, 4, 5, 6, 0] rfl)
        refine hv_aload_n (r := some a19) E.1 E.2.1 dX2_turns_34 rfl (lv_at hl 0 rfl) ?_
        obtain ⟨f87, ⟨fs, hfs, hfk⟩, hw⟩ := hw
        refine hv_getN (v := va_rf f87) E hK hI ciX9 3 (Nat.le_of_ble_eq_true rfl) q815 (fun _ h => h) (Or.inl hfs) hfk dX2_turns_35 ?_
        refine lv_iload E.1 E.2.1 dX2_turns_38 (lv_at hl 5 rfl) ?_
        obtain ⟨a88, ea88, hw⟩ := hw
        revert hl hw; subst ea88; intro hl hw
        obtain ⟨⟨fs91, hrv⟩, hw⟩ := hw
        have hq := hw
        clear hw
        refine hv_callq (u := u17) (B1 := 0) hI (vx_runV (As := [.int (x16)]) (rest := []) E (met_J2_get l G (d + 4) hq) (cwV 1 E.2.2.2.2 (lw_V q784 q785 q786 q124 q787) rfl rfl rfl hd_J2_get (rm_ok (by omega) (by decide))) (hv_preV hK hI hrv rfl) rfl rfl hl.1 rfl (lv_room (by first | rfl | decide | (simp [va_rf_cat, int_cat, long_cat]; done) | (simp [va_rf_cat, int_cat, long_cat]; decide))) dX2_turns_40 (hv_fit (by first | exact hu | omega))) (fun _ _ _ _ _ h => h.elim) (fun r90 y89 H locs hw hI => ?_)
        obtain ⟨hof, hw⟩ := hw
        refine hv_castC (cn := 13) E hK hI (by decide) q1277 hof dX2_turns_43 ?_
        refine hv_astore (r := r90) (lv' := [(7, va_rf r90), (1, va_rf (some a19)), (2, va_rf p2), (3, .int (i3)), (4, .int (i4)), (5, va_rf (some a2)), (6, .int (x16))]) E.1 E.2.1 dX2_turns_46 hl (Nat.le_of_ble_eq_true rfl) (by first | rfl | decide | (simp [va_rf_cat, int_cat, long_cat]; done) | (simp [va_rf_cat, int_cat, long_cat]; decide)) (fun ls hl => ?_)
        refine hv_aload (r := r90) E.1 E.2.1 dX2_turns_48 (lv_at hl 0 rfl) ?_
        obtain ⟨a92, ea92, hw⟩ := hw
        revert hl hw; subst ea92; intro hl hw
        obtain ⟨f93, ⟨fs, hfs, hfk⟩, hw⟩ := hw
        refine hv_getN (v := .int f93) E hK hI ciX15 2 (Nat.le_of_ble_eq_true rfl) q1162 (fun _ h => h) (Or.inl hfs) hfk dX2_turns_50 ?_
        refine lv_bipush (v := nI 60) E.1 E.2.1 dX2_turns_53 rfl ?_
        refine lv_icmp_ne (tgt := 66) E.1 E.2.1 dX2_turns_55 (by decide) (fun c94 => ?_) (fun c94 => ?_)
        · replace hw := hw.1 (c94)
          refine hv_aload (r := some a92) E.1 E.2.1 dX2_turns_66 (lv_at hl 0 rfl) ?_
          obtain ⟨f95, ⟨fs, hfs, hfk⟩, hw⟩ := hw
          refine hv_getN (v := .int f95) E hK hI ciX15 3 (Nat.le_of_ble_eq_true rfl) q1165 (fun _ h => h) (Or.inl hfs) hfk dX2_turns_68 ?_
          refine lv_iconst (v := nI 1) E.1 E.2.1 dX2_turns_71 rfl ?_
          refine lv_iadd E.1 E.2.1 dX2_turns_72 ?_
          exact jh57 _ _ _ _ hw _ _ _ hI (lv_sub hl [1, 2, 3, 4, 5, 6, 0] rfl)
        · replace hw := hw.2 (c94)
          refine hv_aload (r := some a92) E.1 E.2.1 dX2_turns_58 (lv_at hl 0 rfl) ?_
          obtain ⟨f96, ⟨fs, hfs, hfk⟩, hw⟩ := hw
          refine hv_getN (v := .int f96) E hK hI ciX15 3 (Nat.le_of_ble_eq_true rfl) q1165 (fun _ h => h) (Or.inl hfs) hfk dX2_turns_60 ?_
          refine lv_goto (tgt := 73) E.1 E.2.1 dX2_turns_63 (by decide) ?_
          exact jh57 _ _ _ _ hw _ _ _ hI (lv_sub hl [1, 2, 3, 4, 5, 6, 0] rfl)
  exact L15 n18 _ _ _ hi99 _ _ _ hI (lv_sub hl [3, 4, 5, 6, 1, 0] rfl)
/-- CaseGrouper$Edition.tries(LCaseGrouper$Chapter;)V -/
def wp_X2_tries (G : GP) (B : Nat) (post : HS → Prop) (y0 : HS) (a0 : Nat) (p1 : Option Nat) : Prop := 0 + 1 ≤ B ∧ ∀ a2, a2 = y0.2 → ∀ y1, y1 = hnew y0 (ob 16 [.int 0, .int 0, .int 0, .int 0, .int 0]) → wp_X18_init G (fun y3 => ∃ I4 : Nat → HS → Nat → Int32 → Int32 → Prop, (∃ n12, I4 n12 y3 ((0 + 1)) (nI 0) (nI 0)) ∧ ∀ (n5 : Nat) (y6 : HS) (u11 : Nat) (x9 : Int32) (x10 : Int32), I4 n5 y6 u11 x9 x10 → u11 ≤ B ∧ ∃ a13, p1 = some a13 ∧ ∃ f14, fR y6 a13 7 3 f14 ∧ ∃ a15, f14 = some a15 ∧ (∃ fs18, rd G y6 a15 (ob 18 fs18)) ∧ wp_J2_size G (fun x17 y16 => (x17 ≤ x10 → (∃ fs22, rd G y16 a0 (ob 1 fs22)) ∧ ∃ k23, u11 + k23 ≤ B ∧ wp_X2_turns G k23 (fun r21 y20 => (∃ fs26, rd G y20 a0 (ob 1 fs26)) ∧ ∃ k27, (u11 + k23) + k27 ≤ B ∧ wp_X2_turns G k27 (fun r25 y24 => ∃ fs29, y24.1 a2 = some (ob 16 fs29) ∧ 0 < fs29.length ∧ ∀ y28, y28 = hput y24 a2 (ob 16 (fs29.set 0 (.int (nI 0)))) → ∃ I30 : Nat → HS → Nat → Prop, (∃ n36, I30 n36 y28 (((u11 + k23) + k27)) ) ∧ ∀ (n31 : Nat) (y32 : HS) (u35 : Nat), I30 n31 y32 u35 → u35 ≤ B ∧ ∃ f37, fI y32 a2 16 0 f37 ∧ (((nI 1) <<< (x9 &&& 31)) ≤ f37 → post y32) ∧ (¬ ((nI 1) <<< (x9 &&& 31)) ≤ f37 → ∃ fs40, y32.1 a2 = some (ob 16 fs40) ∧ 3 < fs40.length ∧ ∀ y39, y39 = hput y32 a2 (ob 16 (fs40.set 3 (.int (nI 0)))) → ∃ I41 : Nat → HS → Nat → Prop, (∃ n47, I41 n47 y39 u35 ) ∧ ∀ (n42 : Nat) (y43 : HS) (u46 : Nat), I41 n42 y43 u46 → u46 ≤ B ∧ ∃ f48, fI y43 a2 16 3 f48 ∧ ((nI 3) < f48 → ∃ f50, fI y43 a2 16 0 f50 ∧ ∃ fs52, y43.1 a2 = some (ob 16 fs52) ∧ 0 < fs52.length ∧ ∀ y51, y51 = hput y43 a2 (ob 16 (fs52.set 0 (.int (f50 + (nI 1))))) → ∃ n53, n53 < n31 ∧ I30 n53 y51 u46 ) ∧ (¬ (nI 3) < f48 → ∃ fs55, y43.1 a2 = some (ob 16 fs55) ∧ 4 < fs55.length ∧ ∀ y54, y54 = hput y43 a2 (ob 16 (fs55.set 4 (.int (nI 0)))) → ∃ I56 : Nat → HS → Nat → Prop, (∃ n62, I56 n62 y54 u46 ) ∧ ∀ (n57 : Nat) (y58 : HS) (u61 : Nat), I56 n57 y58 u61 → u61 ≤ B ∧ ∃ f63, fI y58 a2 16 4 f63 ∧ ((nI 9) < f63 → ∃ f65, fI y58 a2 16 3 f65 ∧ ∃ fs67, y58.1 a2 = some (ob 16 fs67) ∧ 3 < fs67.length ∧ ∀ y66, y66 = hput y58 a2 (ob 16 (fs67.set 3 (.int (f65 + (nI 1))))) → ∃ n68, n68 < n42 ∧ I41 n68 y66 u61 ) ∧ (¬ (nI 9) < f63 → ∃ a69, r21 = some a69 ∧ ∃ (n70 : Nat) (g71 : Nat → Int32), rd G y58 a69 (ai 0 n70 g71) ∧ ∀ x72, x72 = nI n70 → ∃ I73 : Nat → HS → Nat → Int32 → Prop, (∃ n80, I73 n80 y58 u61 (nI 0)) ∧ ∀ (n74 : Nat) (y75 : HS) (u79 : Nat) (x78 : Int32), I73 n74 y75 u79 x78 → u79 ≤ B ∧ (x72 ≤ x78 → ∃ f82, fI y75 a2 16 4 f82 ∧ ∃ fs84, y75.1 a2 = some (ob 16 fs84) ∧ 4 < fs84.length ∧ ∀ y83, y83 = hput y75 a2 (ob 16 (fs84.set 4 (.int (f82 + (nI 1))))) → ∃ n85, n85 < n57 ∧ I56 n85 y83 u79 ) ∧ (¬ x72 ≤ x78 → ∃ (n86 : Nat) (g87 : Nat → Int32), rd G y75 a69 (ai 0 n86 g87) ∧ vp_in x78 n86 ∧ ∀ x88, x88 = g87 x78.toNatClampNeg → ∃ a89, r25 = some a89 ∧ ∃ (n90 : Nat) (g91 : Nat → Int32), rd G y75 a89 (ai 0 n90 g91) ∧ ∀ x92, x92 = nI n90 → ∃ I93 : Nat → HS → Nat → Int32 → Prop, (∃ n100, I93 n100 y75 u79 (nI 0)) ∧ ∀ (n94 : Nat) (y95 : HS) (u99 : Nat) (x98 : Int32), I93 n94 y95 u99 x98 → u99 ≤ B ∧ (x92 ≤ x98 → ∃ n102, n102 < n74 ∧ I73 n102 y95 u99 (x78 + nI 1)) ∧ (¬ x92 ≤ x98 → ∃ (n103 : Nat) (g104 : Nat → Int32), rd G y95 a89 (ai 0 n103 g104) ∧ vp_in x98 n103 ∧ ∀ x105, x105 = g104 x98.toNatClampNeg → ∃ fs107, y95.1 a2 = some (ob 16 fs107) ∧ 1 < fs107.length ∧ ∀ y106, y106 = hput y95 a2 (ob 16 (fs107.set 1 (.int (x88)))) → ∃ fs109, y106.1 a2 = some (ob 16 fs109) ∧ 2 < fs109.length ∧ ∀ y108, y108 = hput y106 a2 (ob 16 (fs109.set 2 (.int (x105)))) → ∃ f110, fR y108 a13 7 2 f110 ∧ (∃ fs113, rd G y108 a2 (ob 16 fs113)) ∧ wp_goes16 G d_goes16 (fun r112 y111 => ∃ a114, r112 = some a114 ∧ ∃ fs116, y111.1 a114 = some (ob 11 fs116) ∧ 1 < fs116.length ∧ ∀ y115, y115 = hput y111 a114 (ob 11 (fs116.set 1 (.int (nI 1)))) → ∃ n117, n117 < n94 ∧ I93 n117 y115 u99 (x98 + nI 1)) y108 a2 f110)))))) y20 a0 (some a13) (some (gK G 5)) (nI 1) (nI 400)) y16 a0 (some a13) (some (gK G 0)) (nI 0) (nI 120)) ∧ (¬ x17 ≤ x10 → ∃ f128, fR y16 a13 7 3 f128 ∧ ∃ a129, f128 = some a129 ∧ (∃ fs132, rd G y16 a129 (ob 18 fs132)) ∧ wp_J2_get G (fun r131 y130 => isOf G y130 r131 13 ∧ ∃ a133, r131 = some a133 ∧ (∃ fs136, rd G y130 a133 (ob 13 fs136)) ∧ wp_X15_isOfCodes G (fun b135 y134 => (b135 = false → ∀ x138, x138 = x9 + (nI 0) → ∃ n139, n139 < n5 ∧ I4 n139 y134 u11 x138 (x10 + nI 1)) ∧ (b135 = true → ∀ x140, x140 = x9 + (nI 1) → ∃ n141, n141 < n5 ∧ I4 n141 y134 u11 x140 (x10 + nI 1))) y130 a133) y16 a129 x10)) y6 a15) y1 a2
theorem hs_X2_tries : yX2_tries.cls ≠ "java/lang/invoke/MethodHandle" ∧ yX2_tries.cls ≠ "java/lang/invoke/VarHandle" ∧ (parseMethodDescriptor yX2_tries.desc).map (fun d => d.parameters.length) = some 1 := by decide +kernel
theorem hd_X2_tries : yX2_tries.cls = RX2 ∧ yX2_tries.cls ≠ "java/lang/invoke/MethodHandle" ∧ yX2_tries.cls ≠ "java/lang/invoke/VarHandle" ∧ (parseMethodDescriptor yX2_tries.desc).map (fun d => d.parameters.length) = some 1 := by decide +kernel
set_option maxHeartbeats 4000000 in
theorem met_X2_tries (l : Launch) (G : GP) (d : Nat) {B : Nat} {post : HS → Prop} {y0 : HS} {a0 : Nat} {p1 : Option Nat} (hw : wp_X2_tries G B post y0 a0 p1) : vx_Met l yX2_tries (ws_ yX2_tries cX2_tries 14 none) (rmB (d + 59) B) (hPc G y0 [va_rf (some a0), va_rf p1]) (hQv G y0 post) (hX G y0 (fun _ _ _ => False)) B (20 * B) (HA y0) := by
  have hD_goes16 : d_goes16 = 12 := rfl
  unfold wp_X2_tries at hw
  refine hv_met (own := RX2) (by decide) rfl (by simp [lg_sl, va_rf_cat, int_cat, long_cat]) ?_
  intro p e s m args below meth c ls E hr hlocks hnm hE hK hI hl
  replace hl : lv_has ls 14 [(0, va_rf (some a0)), (1, va_rf p1)] := by simpa [lv_args, va_rf_cat, int_cat, long_cat] using hl
  have hu : 0 ≤ B := Nat.zero_le _
  obtain ⟨hu, hw⟩ := hw
  refine hv_new (fs := [.int 0, .int 0, .int 0, .int 0, .int 0]) E hK hI ciX18 q1247 q1248 q162 (df16) (Nat.le_of_ble_eq_true rfl) hu dX2_tries_0 (fun H hI => ?_)
  obtain ⟨a2, ea2⟩ : ∃ w, w = y0.2 := ⟨_, rfl⟩
  obtain ⟨y1, ey1⟩ : ∃ w, w = hnew y0 (ob 16 [.int 0, .int 0, .int 0, .int 0, .int 0]) := ⟨_, rfl⟩
  rw [← ea2]
  rw [← ey1] at hI
  replace hw := hw a2 ea2 y1 ey1
  refine hv_dup E.1 E.2.1 dX2_tries_3 ?_
  have hq := hw
  clear hw
  refine hv_callv (u := ((0 + 1))) (B1 := 0) hI (vx_runIN (R := rmB (d + 59) B) (b := a2) (As := []) (rest := [va_rf (some a2)]) E (met_X18_init l G (d + 56) hq) ⟨va_cnB 0 E.2.2.2.2 (lw_meth q1251) rfl rfl rfl (hK.2.2.2.2.1 _ q1249 rfl) (E.2.2.2.2 _ q162) hs_X18_init (rm_ok (by omega) (by decide)), rfl, E.2.2.2.2 _ q1250⟩ (hv_preS hK hI) rfl rfl hl.1 rfl (lv_room (by first | rfl | decide | (simp [va_rf_cat, int_cat, long_cat]; done) | (simp [va_rf_cat, int_cat, long_cat]; decide))) dX2_tries_4 (hv_fit (by first | exact hu | omega))) (fun _ _ _ _ _ h => h.elim) (fun y3 H locs hw hI => ?_)
  refine hv_astore_n (r := some a2) (lv' := [(2, va_rf (some a2)), (0, va_rf (some a0)), (1, va_rf p1)]) E.1 E.2.1 dX2_tries_7 rfl hl (Nat.le_of_ble_eq_true rfl) (by first | rfl | decide | (simp [va_rf_cat, int_cat, long_cat]; done) | (simp [va_rf_cat, int_cat, long_cat]; decide)) (fun ls hl => ?_)
  refine lv_iconst (v := nI 0) E.1 E.2.1 dX2_tries_8 rfl ?_
  refine lv_istore_n (lv' := [(3, .int (nI 0)), (2, va_rf (some a2)), (0, va_rf (some a0)), (1, va_rf p1)]) E.1 E.2.1 dX2_tries_9 rfl hl (Nat.le_of_ble_eq_true rfl) (by first | rfl | decide | (simp [va_rf_cat, int_cat, long_cat]; done) | (simp [va_rf_cat, int_cat, long_cat]; decide)) (fun ls hl => ?_)
  refine lv_iconst (v := nI 0) E.1 E.2.1 dX2_tries_10 rfl ?_
  refine lv_istore (lv' := [(4, .int (nI 0)), (3, .int (nI 0)), (2, va_rf (some a2)), (0, va_rf (some a0)), (1, va_rf p1)]) E.1 E.2.1 dX2_tries_11 hl (Nat.le_of_ble_eq_true rfl) (by first | rfl | decide | (simp [va_rf_cat, int_cat, long_cat]; done) | (simp [va_rf_cat, int_cat, long_cat]; decide)) (fun ls hl => ?_)
  obtain ⟨I4, ⟨n12, hi143⟩, hb142⟩ := hw
  have L8 : ∀ (n5 : Nat) (y6 : HS) (u11 : Nat) (x9 : Int32) (x10 : Int32), I4 n5 y6 u11 x9 x10 → ∀ (H : Heap) (locs : List Loc) (ls : Array Slot), HI G y0 y6 s H locs → lv_has ls 14 [(0, va_rf (some a0)), (1, va_rf p1), (2, va_rf (some a2)), (3, .int (x9)), (4, .int (x10))] → W p l e (rmB (d + 59) B) s m args below meth c H locs u11 (20 * u11) (vx_MQ below (hQv G y0 post) (hX G y0 (fun _ _ _ => False)) args s B (20 * B) (HA y0)) (F0 m 13 ls []) := by
    intro n5
    induction n5 using Nat.strongRecOn with
    | _ n5 ih7 =>
      intro y6 u11 x9 x10 hw H locs ls hI hl
      replace hw := hb142 n5 y6 u11 x9 x10 hw
      obtain ⟨hu, hw⟩ := hw
      refine lv_iload E.1 E.2.1 dX2_tries_13 (lv_at hl 4 rfl) ?_
      refine hv_aload_n (r := p1) E.1 E.2.1 dX2_tries_15 rfl (lv_at hl 1 rfl) ?_
      obtain ⟨a13, ea13, hw⟩ := hw
      revert hl hw; subst ea13; intro hl hw
      obtain ⟨f14, ⟨fs, hfs, hfk⟩, hw⟩ := hw
      refine hv_getN (v := va_rf f14) E hK hI ciX9 3 (Nat.le_of_ble_eq_true rfl) q815 (fun _ h => h) (Or.inl hfs) hfk dX2_tries_16 ?_
      obtain ⟨a15, ea15, hw⟩ := hw
      revert hl hw; subst ea15; intro hl hw
      obtain ⟨⟨fs18, hrv⟩, hw⟩ := hw
      have hq := hw
      clear hw
      refine hv_calli (u := u11) (B1 := 0) hI (vx_runV (As := []) (rest := [.int (x10)]) E (met_J2_size l G (d + 58) hq) (cwV 0 E.2.2.2.2 (lw_V q783 q752 q753 q124 q754) rfl rfl rfl hd_J2_size (rm_ok (by omega) (by decide))) (hv_preV hK hI hrv rfl) rfl rfl hl.1 rfl (lv_room (by first | rfl | decide | (simp [va_rf_cat, int_cat, long_cat]; done) | (simp [va_rf_cat, int_cat, long_cat]; decide))) dX2_tries_19 (hv_fit (by first | exact hu | omega))) (fun _ _ _ _ _ h => h.elim) (fun x17 y16 H locs hw hI => ?_)
      refine lv_icmp_ge (tgt := 57) E.1 E.2.1 dX2_tries_22 (by decide) (fun c19 => ?_) (fun c19 => ?_)
      · replace hw := hw.1 (c19)
        refine hv_aload_n (r := some a0) E.1 E.2.1 dX2_tries_57 rfl (lv_at hl 0 rfl) ?_
        refine hv_aload_n (r := some a13) E.1 E.2.1 dX2_tries_58 rfl (lv_at hl 1 rfl) ?_
        refine hv_ldcS E hK 0 0 rfl dX2_tries_59 ?_
        refine lv_iconst (v := nI 0) E.1 E.2.1 dX2_tries_61 rfl ?_
        refine lv_bipush (v := nI 120) E.1 E.2.1 dX2_tries_62 rfl ?_
        obtain ⟨⟨fs22, hrv⟩, hw⟩ := hw
        obtain ⟨k23, hB, hw⟩ := hw
        have hq := hw
        clear hw
        refine hv_callq (u := u11) (B1 := k23) hI (vx_runV (As := [va_rf (some a13), va_rf (some (gK G 0)), .int (nI 0), .int (nI 120)]) (rest := []) E (met_X2_turns l G (d + 51) hq) (cwV 4 E.2.2.2.2 (lw_V q1280 q1282 qs42 q125 q1283) rfl rfl rfl hd_X2_turns (rm_ok (by omega) (by decide))) (hv_preV hK hI hrv rfl) rfl rfl hl.1 rfl (lv_room (by first | rfl | decide | (simp [va_rf_cat, int_cat, long_cat]; done) | (simp [va_rf_cat, int_cat, long_cat]; decide))) dX2_tries_64 (hv_fit (by first | exact hB | omega))) (fun _ _ _ _ _ h => h.elim) (fun r21 y20 H locs hw hI => ?_)
        have hu := hB
        refine hv_astore (r := r21) (lv' := [(4, va_rf r21), (0, va_rf (some a0)), (1, va_rf (some a13)), (2, va_rf (some a2)), (3, .int (x9))]) E.1 E.2.1 dX2_tries_67 hl (Nat.le_of_ble_eq_true rfl) (by first | rfl | decide | (simp [va_rf_cat, int_cat, long_cat]; done) | (simp [va_rf_cat, int_cat, long_cat]; decide)) (fun ls hl => ?_)
        refine hv_aload_n (r := some a0) E.1 E.2.1 dX2_tries_69 rfl (lv_at hl 1 rfl) ?_
        refine hv_aload_n (r := some a13) E.1 E.2.1 dX2_tries_70 rfl (lv_at hl 2 rfl) ?_
        refine hv_ldcS E hK 1 5 rfl dX2_tries_71 ?_
        refine lv_iconst (v := nI 1) E.1 E.2.1 dX2_tries_73 rfl ?_
        refine lv_sipush (v := nI 400) E.1 E.2.1 dX2_tries_74 rfl ?_
        obtain ⟨⟨fs26, hrv⟩, hw⟩ := hw
        obtain ⟨k27, hB, hw⟩ := hw
        have hq := hw
        clear hw
        refine hv_callq (u := ((u11 + k23))) (B1 := k27) hI (vx_runV (As := [va_rf (some a13), va_rf (some (gK G 5)), .int (nI 1), .int (nI 400)]) (rest := []) E (met_X2_turns l G (d + 51) hq) (cwV 4 E.2.2.2.2 (lw_V q1280 q1282 qs42 q125 q1283) rfl rfl rfl hd_X2_turns (rm_ok (by omega) (by decide))) (hv_preV hK hI hrv rfl) rfl rfl hl.1 rfl (lv_room (by first | rfl | decide | (simp [va_rf_cat, int_cat, long_cat]; done) | (simp [va_rf_cat, int_cat, long_cat]; decide))) dX2_tries_77 (hv_fit (by first | exact hB | omega))) (fun _ _ _ _ _ h => h.elim) (fun r25 y24 H locs hw hI => ?_)
        have hu := hB
        refine hv_astore (r := r25) (lv' := [(5, va_rf r25), (4, va_rf r21), (0, va_rf (some a0)), (1, va_rf (some a13)), (2, va_rf (some a2)), (3, .int (x9))]) E.1 E.2.1 dX2_tries_80 hl (Nat.le_of_ble_eq_true rfl) (by first | rfl | decide | (simp [va_rf_cat, int_cat, long_cat]; done) | (simp [va_rf_cat, int_cat, long_cat]; decide)) (fun ls hl => ?_)
        refine hv_aload_n (r := some a2) E.1 E.2.1 dX2_tries_82 rfl (lv_at hl 4 rfl) ?_
        refine lv_iconst (v := nI 0) E.1 E.2.1 dX2_tries_83 rfl ?_
        obtain ⟨fs29, hfs, hln, hw⟩ := hw
        refine hv_putN (v := .int (nI 0)) E hK hI ciX18 0 (Nat.le_of_ble_eq_true rfl) q1257 (fun _ h => h) rfl rfl rfl hfs hln dX2_tries_84 (fun H locs hI => ?_)
        obtain ⟨y28, ey28⟩ : ∃ w, w = hput y24 a2 (ob 16 (fs29.set 0 (.int (nI 0)))) := ⟨_, rfl⟩
        rw [← ey28] at hI
        replace hw := hw y28 ey28
        obtain ⟨I30, ⟨n36, hi127⟩, hb126⟩ := hw
        have L34 : ∀ (n31 : Nat) (y32 : HS) (u35 : Nat), I30 n31 y32 u35 → ∀ (H : Heap) (locs : List Loc) (ls : Array Slot), HI G y0 y32 s H locs → lv_has ls 14 [(1, va_rf (some a13)), (2, va_rf (some a2)), (3, .int (x9)), (4, va_rf r21), (5, va_rf r25)] → W p l e (rmB (d + 59) B) s m args below meth c H locs u35 (20 * u35) (vx_MQ below (hQv G y0 post) (hX G y0 (fun _ _ _ => False)) args s B (20 * B) (HA y0)) (F0 m 87 ls []) := by
          intro n31
          induction n31 using Nat.strongRecOn with
          | _ n31 ih33 =>
            intro y32 u35 hw H locs ls hI hl
            replace hw := hb126 n31 y32 u35 hw
            obtain ⟨hu, hw⟩ := hw
            refine hv_aload_n (r := some a2) E.1 E.2.1 dX2_tries_87 rfl (lv_at hl 1 rfl) ?_
            obtain ⟨f37, ⟨fs, hfs, hfk⟩, hw⟩ := hw
            refine hv_getN (v := .int f37) E hK hI ciX18 0 (Nat.le_of_ble_eq_true rfl) q1257 (fun _ h => h) (Or.inl hfs) hfk dX2_tries_88 ?_
            refine lv_iconst (v := nI 1) E.1 E.2.1 dX2_tries_91 rfl ?_
            refine lv_iload_n E.1 E.2.1 dX2_tries_92 rfl (lv_at hl 2 rfl) ?_
            refine lv_ishl E.1 E.2.1 dX2_tries_93 ?_
            refine lv_icmp_ge (tgt := 251) E.1 E.2.1 dX2_tries_94 (by decide) (fun c38 => ?_) (fun c38 => ?_)
            · replace hw := hw.1 (c38)
              exact hv_vret E hr hlocks hI hu hw dX2_tries_251
            · replace hw := hw.2 (c38)
              refine hv_aload_n (r := some a2) E.1 E.2.1 dX2_tries_97 rfl (lv_at hl 1 rfl) ?_
              refine lv_iconst (v := nI 0) E.1 E.2.1 dX2_tries_98 rfl ?_
              obtain ⟨fs40, hfs, hln, hw⟩ := hw
              refine hv_putN (v := .int (nI 0)) E hK hI ciX18 3 (Nat.le_of_ble_eq_true rfl) q1263 (fun _ h => h) rfl rfl rfl hfs hln dX2_tries_99 (fun H locs hI => ?_)
              obtain ⟨y39, ey39⟩ : ∃ w, w = hput y32 a2 (ob 16 (fs40.set 3 (.int (nI 0)))) := ⟨_, rfl⟩
              rw [← ey39] at hI
              replace hw := hw y39 ey39
              obtain ⟨I41, ⟨n47, hi125⟩, hb124⟩ := hw
              have L45 : ∀ (n42 : Nat) (y43 : HS) (u46 : Nat), I41 n42 y43 u46 → ∀ (H : Heap) (locs : List Loc) (ls : Array Slot), HI G y0 y43 s H locs → lv_has ls 14 [(1, va_rf (some a13)), (2, va_rf (some a2)), (3, .int (x9)), (4, va_rf r21), (5, va_rf r25)] → W p l e (rmB (d + 59) B) s m args below meth c H locs u46 (20 * u46) (vx_MQ below (hQv G y0 post) (hX G y0 (fun _ _ _ => False)) args s B (20 * B) (HA y0)) (F0 m 102 ls []) := by
                intro n42
                induction n42 using Nat.strongRecOn with
                | _ n42 ih44 =>
                  intro y43 u46 hw H locs ls hI hl
                  replace hw := hb124 n42 y43 u46 hw
                  obtain ⟨hu, hw⟩ := hw
                  refine hv_aload_n (r := some a2) E.1 E.2.1 dX2_tries_102 rfl (lv_at hl 1 rfl) ?_
                  obtain ⟨f48, ⟨fs, hfs, hfk⟩, hw⟩ := hw
                  refine hv_getN (v := .int f48) E hK hI ciX18 3 (Nat.le_of_ble_eq_true rfl) q1263 (fun _ h => h) (Or.inl hfs) hfk dX2_tries_103 ?_
                  refine lv_iconst (v := nI 3) E.1 E.2.1 dX2_tries_106 rfl ?_
                  refine lv_icmp_gt (tgt := 238) E.1 E.2.1 dX2_tries_107 (by decide) (fun c49 => ?_) (fun c49 => ?_)
                  · replace hw := hw.1 (c49)
                    refine hv_aload_n (r := some a2) E.1 E.2.1 dX2_tries_238 rfl (lv_at hl 1 rfl) ?_
                    refine hv_dup E.1 E.2.1 dX2_tries_239 ?_
                    obtain ⟨f50, ⟨fs, hfs, hfk⟩, hw⟩ := hw
                    refine hv_getN (v := .int f50) E hK hI ciX18 0 (Nat.le_of_ble_eq_true rfl) q1257 (fun _ h => h) (Or.inl hfs) hfk dX2_tries_240 ?_
                    refine lv_iconst (v := nI 1) E.1 E.2.1 dX2_tries_243 rfl ?_
                    refine lv_iadd E.1 E.2.1 dX2_tries_244 ?_
                    obtain ⟨fs52, hfs, hln, hw⟩ := hw
                    refine hv_putN (v := .int (f50 + (nI 1))) E hK hI ciX18 0 (Nat.le_of_ble_eq_true rfl) q1257 (fun _ h => h) rfl rfl rfl hfs hln dX2_tries_245 (fun H locs hI => ?_)
                    obtain ⟨y51, ey51⟩ : ∃ w, w = hput y43 a2 (ob 16 (fs52.set 0 (.int (f50 + (nI 1))))) := ⟨_, rfl⟩
                    rw [← ey51] at hI
                    replace hw := hw y51 ey51
                    refine lv_goto (tgt := 87) E.1 E.2.1 dX2_tries_248 (by decide) ?_
                    obtain ⟨n53, hnn53, hin53⟩ := hw
                    exact ih33 n53 hnn53 _ _ hin53 _ _ _ hI (lv_sub hl [0, 1, 2, 3, 4] rfl)
                  · replace hw := hw.2 (c49)
                    refine hv_aload_n (r := some a2) E.1 E.2.1 dX2_tries_110 rfl (lv_at hl 1 rfl) ?_
                    refine lv_iconst (v := nI 0) E.1 E.2.1 dX2_tries_111 rfl ?_
                    obtain ⟨fs55, hfs, hln, hw⟩ := hw
                    refine hv_putN (v := .int (nI 0)) E hK hI ciX18 4 (Nat.le_of_ble_eq_true rfl) q1265 (fun _ h => h) rfl rfl rfl hfs hln dX2_tries_112 (fun H locs hI => ?_)
                    obtain ⟨y54, ey54⟩ : ∃ w, w = hput y43 a2 (ob 16 (fs55.set 4 (.int (nI 0)))) := ⟨_, rfl⟩
                    rw [← ey54] at hI
                    replace hw := hw y54 ey54
                    obtain ⟨I56, ⟨n62, hi123⟩, hb122⟩ := hw
                    have L60 : ∀ (n57 : Nat) (y58 : HS) (u61 : Nat), I56 n57 y58 u61 → ∀ (H : Heap) (locs : List Loc) (ls : Array Slot), HI G y0 y58 s H locs → lv_has ls 14 [(1, va_rf (some a13)), (2, va_rf (some a2)), (3, .int (x9)), (4, va_rf r21), (5, va_rf r25)] → W p l e (rmB (d + 59) B) s m args below meth c H locs u61 (20 * u61) (vx_MQ below (hQv G y0 post) (hX G y0 (fun _ _ _ => False)) args s B (20 * B) (HA y0)) (F0 m 115 ls []) := by
                      intro n57
                      induction n57 using Nat.strongRecOn with
                      | _ n57 ih59 =>
                        intro y58 u61 hw H locs ls hI hl
                        replace hw := hb122 n57 y58 u61 hw
                        obtain ⟨hu, hw⟩ := hw
                        refine hv_aload_n (r := some a2) E.1 E.2.1 dX2_tries_115 rfl (lv_at hl 1 rfl) ?_
                        obtain ⟨f63, ⟨fs, hfs, hfk⟩, hw⟩ := hw
                        refine hv_getN (v := .int f63) E hK hI ciX18 4 (Nat.le_of_ble_eq_true rfl) q1265 (fun _ h => h) (Or.inl hfs) hfk dX2_tries_116 ?_
                        refine lv_bipush (v := nI 9) E.1 E.2.1 dX2_tries_119 rfl ?_
                        refine lv_icmp_gt (tgt := 225) E.1 E.2.1 dX2_tries_121 (by decide) (fun c64 => ?_) (fun c64 => ?_)
                        · replace hw := hw.1 (c64)
                          refine hv_aload_n (r := some a2) E.1 E.2.1 dX2_tries_225 rfl (lv_at hl 1 rfl) ?_
                          refine hv_dup E.1 E.2.1 dX2_tries_226 ?_
                          obtain ⟨f65, ⟨fs, hfs, hfk⟩, hw⟩ := hw
                          refine hv_getN (v := .int f65) E hK hI ciX18 3 (Nat.le_of_ble_eq_true rfl) q1263 (fun _ h => h) (Or.inl hfs) hfk dX2_tries_227 ?_
                          refine lv_iconst (v := nI 1) E.1 E.2.1 dX2_tries_230 rfl ?_
                          refine lv_iadd E.1 E.2.1 dX2_tries_231 ?_
                          obtain ⟨fs67, hfs, hln, hw⟩ := hw
                          refine hv_putN (v := .int (f65 + (nI 1))) E hK hI ciX18 3 (Nat.le_of_ble_eq_true rfl) q1263 (fun _ h => h) rfl rfl rfl hfs hln dX2_tries_232 (fun H locs hI => ?_)
                          obtain ⟨y66, ey66⟩ : ∃ w, w = hput y58 a2 (ob 16 (fs67.set 3 (.int (f65 + (nI 1))))) := ⟨_, rfl⟩
                          rw [← ey66] at hI
                          replace hw := hw y66 ey66
                          refine lv_goto (tgt := 102) E.1 E.2.1 dX2_tries_235 (by decide) ?_
                          obtain ⟨n68, hnn68, hin68⟩ := hw
                          exact ih44 n68 hnn68 _ _ hin68 _ _ _ hI (lv_sub hl [0, 1, 2, 3, 4] rfl)
                        · replace hw := hw.2 (c64)
                          refine hv_aload (r := r21) E.1 E.2.1 dX2_tries_124 (lv_at hl 3 rfl) ?_
                          refine hv_astore (r := r21) (lv' := [(6, va_rf r21), (1, va_rf (some a13)), (2, va_rf (some a2)), (3, .int (x9)), (4, va_rf r21), (5, va_rf r25)]) E.1 E.2.1 dX2_tries_126 hl (Nat.le_of_ble_eq_true rfl) (by first | rfl | decide | (simp [va_rf_cat, int_cat, long_cat]; done) | (simp [va_rf_cat, int_cat, long_cat]; decide)) (fun ls hl => ?_)
                          refine hv_aload (r := r21) E.1 E.2.1 dX2_tries_128 (lv_at hl 0 rfl) ?_
                          obtain ⟨a69, ea69, hw⟩ := hw
                          revert hl hw; subst ea69; intro hl hw
                          obtain ⟨n70, g71, hra, hw⟩ := hw
                          refine hv_alen (t := 0) E hK hI hra rfl dX2_tries_130 ?_
                          refine lv_topi (fun x72 ex72 => ?_)
                          replace hw := hw x72 ex72
                          refine lv_istore (lv' := [(7, .int (x72)), (6, va_rf (some a69)), (1, va_rf (some a13)), (2, va_rf (some a2)), (3, .int (x9)), (4, va_rf (some a69)), (5, va_rf r25)]) E.1 E.2.1 dX2_tries_131 hl (Nat.le_of_ble_eq_true rfl) (by first | rfl | decide | (simp [va_rf_cat, int_cat, long_cat]; done) | (simp [va_rf_cat, int_cat, long_cat]; decide)) (fun ls hl => ?_)
                          refine lv_iconst (v := nI 0) E.1 E.2.1 dX2_tries_133 rfl ?_
                          refine lv_istore (lv' := [(8, .int (nI 0)), (7, .int (x72)), (6, va_rf (some a69)), (1, va_rf (some a13)), (2, va_rf (some a2)), (3, .int (x9)), (4, va_rf (some a69)), (5, va_rf r25)]) E.1 E.2.1 dX2_tries_134 hl (Nat.le_of_ble_eq_true rfl) (by first | rfl | decide | (simp [va_rf_cat, int_cat, long_cat]; done) | (simp [va_rf_cat, int_cat, long_cat]; decide)) (fun ls hl => ?_)
                          obtain ⟨I73, ⟨n80, hi121⟩, hb120⟩ := hw
                          have L77 : ∀ (n74 : Nat) (y75 : HS) (u79 : Nat) (x78 : Int32), I73 n74 y75 u79 x78 → ∀ (H : Heap) (locs : List Loc) (ls : Array Slot), HI G y0 y75 s H locs → lv_has ls 14 [(1, va_rf (some a13)), (2, va_rf (some a2)), (3, .int (x9)), (4, va_rf (some a69)), (5, va_rf r25), (6, va_rf (some a69)), (7, .int (x72)), (8, .int (x78))] → W p l e (rmB (d + 59) B) s m args below meth c H locs u79 (20 * u79) (vx_MQ below (hQv G y0 post) (hX G y0 (fun _ _ _ => False)) args s B (20 * B) (HA y0)) (F0 m 136 ls []) := by
                            intro n74
                            induction n74 using Nat.strongRecOn with
                            | _ n74 ih76 =>
                              intro y75 u79 x78 hw H locs ls hI hl
                              replace hw := hb120 n74 y75 u79 x78 hw
                              obtain ⟨hu, hw⟩ := hw
                              refine lv_iload E.1 E.2.1 dX2_tries_136 (lv_at hl 7 rfl) ?_
                              refine lv_iload E.1 E.2.1 dX2_tries_138 (lv_at hl 6 rfl) ?_
                              refine lv_icmp_ge (tgt := 212) E.1 E.2.1 dX2_tries_140 (by decide) (fun c81 => ?_) (fun c81 => ?_)
                              · replace hw := hw.1 (c81)
                                refine hv_aload_n (r := some a2) E.1 E.2.1 dX2_tries_212 rfl (lv_at hl 1 rfl) ?_
                                refine hv_dup E.1 E.2.1 dX2_tries_213 ?_
                                obtain ⟨f82, ⟨fs, hfs, hfk⟩, hw⟩ := hw
                                refine hv_getN (v := .int f82) E hK hI ciX18 4 (Nat.le_of_ble_eq_true rfl) q1265 (fun _ h => h) (Or.inl hfs) hfk dX2_tries_214 ?_
                                refine lv_iconst (v := nI 1) E.1 E.2.1 dX2_tries_217 rfl ?_
                                refine lv_iadd E.1 E.2.1 dX2_tries_218 ?_
                                obtain ⟨fs84, hfs, hln, hw⟩ := hw
                                refine hv_putN (v := .int (f82 + (nI 1))) E hK hI ciX18 4 (Nat.le_of_ble_eq_true rfl) q1265 (fun _ h => h) rfl rfl rfl hfs hln dX2_tries_219 (fun H locs hI => ?_)
                                obtain ⟨y83, ey83⟩ : ∃ w, w = hput y75 a2 (ob 16 (fs84.set 4 (.int (f82 + (nI 1))))) := ⟨_, rfl⟩
                                rw [← ey83] at hI
                                replace hw := hw y83 ey83
                                refine lv_goto (tgt := 115) E.1 E.2.1 dX2_tries_222 (by decide) ?_
                                obtain ⟨n85, hnn85, hin85⟩ := hw
                                exact ih59 n85 hnn85 _ _ hin85 _ _ _ hI (lv_sub hl [0, 1, 2, 3, 4] rfl)
                              · replace hw := hw.2 (c81)
                                refine hv_aload (r := some a69) E.1 E.2.1 dX2_tries_143 (lv_at hl 5 rfl) ?_
                                refine lv_iload E.1 E.2.1 dX2_tries_145 (lv_at hl 7 rfl) ?_
                                obtain ⟨n86, g87, hra, hin, hw⟩ := hw
                                refine hv_iald E hK hI hra hin dX2_tries_147 ?_
                                refine lv_topi (fun x88 ex88 => ?_)
                                replace hw := hw x88 ex88
                                refine lv_istore (lv' := [(9, .int (x88)), (1, va_rf (some a13)), (2, va_rf (some a2)), (3, .int (x9)), (4, va_rf (some a69)), (5, va_rf r25), (6, va_rf (some a69)), (7, .int (x72)), (8, .int (x78))]) E.1 E.2.1 dX2_tries_148 hl (Nat.le_of_ble_eq_true rfl) (by first | rfl | decide | (simp [va_rf_cat, int_cat, long_cat]; done) | (simp [va_rf_cat, int_cat, long_cat]; decide)) (fun ls hl => ?_)
                                refine hv_aload (r := r25) E.1 E.2.1 dX2_tries_150 (lv_at hl 5 rfl) ?_
                                refine hv_astore (r := r25) (lv' := [(10, va_rf r25), (9, .int (x88)), (1, va_rf (some a13)), (2, va_rf (some a2)), (3, .int (x9)), (4, va_rf (some a69)), (5, va_rf r25), (6, va_rf (some a69)), (7, .int (x72)), (8, .int (x78))]) E.1 E.2.1 dX2_tries_152 hl (Nat.le_of_ble_eq_true rfl) (by first | rfl | decide | (simp [va_rf_cat, int_cat, long_cat]; done) | (simp [va_rf_cat, int_cat, long_cat]; decide)) (fun ls hl => ?_)
                                refine hv_aload (r := r25) E.1 E.2.1 dX2_tries_154 (lv_at hl 0 rfl) ?_
                                obtain ⟨a89, ea89, hw⟩ := hw
                                revert hl hw; subst ea89; intro hl hw
                                obtain ⟨n90, g91, hra, hw⟩ := hw
                                refine hv_alen (t := 0) E hK hI hra rfl dX2_tries_156 ?_
                                refine lv_topi (fun x92 ex92 => ?_)
                                replace hw := hw x92 ex92
                                refine lv_istore (lv' := [(11, .int (x92)), (10, va_rf (some a89)), (9, .int (x88)), (1, va_rf (some a13)), (2, va_rf (some a2)), (3, .int (x9)), (4, va_rf (some a69)), (5, va_rf (some a89)), (6, va_rf (some a69)), (7, .int (x72)), (8, .int (x78))]) E.1 E.2.1 dX2_tries_157 hl (Nat.le_of_ble_eq_true rfl) (by first | rfl | decide | (simp [va_rf_cat, int_cat, long_cat]; done) | (simp [va_rf_cat, int_cat, long_cat]; decide)) (fun ls hl => ?_)
                                refine lv_iconst (v := nI 0) E.1 E.2.1 dX2_tries_159 rfl ?_
                                refine lv_istore (lv' := [(12, .int (nI 0)), (11, .int (x92)), (10, va_rf (some a89)), (9, .int (x88)), (1, va_rf (some a13)), (2, va_rf (some a2)), (3, .int (x9)), (4, va_rf (some a69)), (5, va_rf (some a89)), (6, va_rf (some a69)), (7, .int (x72)), (8, .int (x78))]) E.1 E.2.1 dX2_tries_160 hl (Nat.le_of_ble_eq_true rfl) (by first | rfl | decide | (simp [va_rf_cat, int_cat, long_cat]; done) | (simp [va_rf_cat, int_cat, long_cat]; decide)) (fun ls hl => ?_)
                                obtain ⟨I93, ⟨n100, hi119⟩, hb118⟩ := hw
                                have L97 : ∀ (n94 : Nat) (y95 : HS) (u99 : Nat) (x98 : Int32), I93 n94 y95 u99 x98 → ∀ (H : Heap) (locs : List Loc) (ls : Array Slot), HI G y0 y95 s H locs → lv_has ls 14 [(1, va_rf (some a13)), (2, va_rf (some a2)), (3, .int (x9)), (4, va_rf (some a69)), (5, va_rf (some a89)), (6, va_rf (some a69)), (7, .int (x72)), (8, .int (x78)), (9, .int (x88)), (10, va_rf (some a89)), (11, .int (x92)), (12, .int (x98))] → W p l e (rmB (d + 59) B) s m args below meth c H locs u99 (20 * u99) (vx_MQ below (hQv G y0 post) (hX G y0 (fun _ _ _ => False)) args s B (20 * B) (HA y0)) (F0 m 162 ls []) := by
                                  intro n94
                                  induction n94 using Nat.strongRecOn with
                                  | _ n94 ih96 =>
                                    intro y95 u99 x98 hw H locs ls hI hl
                                    replace hw := hb118 n94 y95 u99 x98 hw
                                    obtain ⟨hu, hw⟩ := hw
                                    refine lv_iload E.1 E.2.1 dX2_tries_162 (lv_at hl 11 rfl) ?_
                                    refine lv_iload E.1 E.2.1 dX2_tries_164 (lv_at hl 10 rfl) ?_
                                    refine lv_icmp_ge (tgt := 206) E.1 E.2.1 dX2_tries_166 (by decide) (fun c101 => ?_) (fun c101 => ?_)
                                    · replace hw := hw.1 (c101)
                                      refine lv_iinc (k := 7) (v := x78 + nI 1) (lv' := [(8, .int (x78 + nI 1)), (1, va_rf (some a13)), (2, va_rf (some a2)), (3, .int (x9)), (4, va_rf (some a69)), (5, va_rf (some a89)), (6, va_rf (some a69)), (7, .int (x72)), (9, .int (x88)), (10, va_rf (some a89)), (11, .int (x92)), (12, .int (x98))]) E.1 E.2.1 dX2_tries_206 hl rfl rfl (Nat.le_of_ble_eq_true rfl) (by first | rfl | decide | (simp [va_rf_cat, int_cat, long_cat]; done) | (simp [va_rf_cat, int_cat, long_cat]; decide)) (fun ls hl => ?_)
                                      refine lv_goto (tgt := 136) E.1 E.2.1 dX2_tries_209 (by decide) ?_
                                      obtain ⟨n102, hnn102, hin102⟩ := hw
                                      exact ih76 n102 hnn102 _ _ _ hin102 _ _ _ hI (lv_sub hl [1, 2, 3, 4, 5, 6, 7, 0] rfl)
                                    · replace hw := hw.2 (c101)
                                      refine hv_aload (r := some a89) E.1 E.2.1 dX2_tries_169 (lv_at hl 9 rfl) ?_
                                      refine lv_iload E.1 E.2.1 dX2_tries_171 (lv_at hl 11 rfl) ?_
                                      obtain ⟨n103, g104, hra, hin, hw⟩ := hw
                                      refine hv_iald E hK hI hra hin dX2_tries_173 ?_
                                      refine lv_topi (fun x105 ex105 => ?_)
                                      replace hw := hw x105 ex105
                                      refine lv_istore (lv' := [(13, .int (x105)), (1, va_rf (some a13)), (2, va_rf (some a2)), (3, .int (x9)), (4, va_rf (some a69)), (5, va_rf (some a89)), (6, va_rf (some a69)), (7, .int (x72)), (8, .int (x78)), (9, .int (x88)), (10, va_rf (some a89)), (11, .int (x92)), (12, .int (x98))]) E.1 E.2.1 dX2_tries_174 hl (Nat.le_of_ble_eq_true rfl) (by first | rfl | decide | (simp [va_rf_cat, int_cat, long_cat]; done) | (simp [va_rf_cat, int_cat, long_cat]; decide)) (fun ls hl => ?_)
                                      refine hv_aload_n (r := some a2) E.1 E.2.1 dX2_tries_176 rfl (lv_at hl 2 rfl) ?_
                                      refine lv_iload E.1 E.2.1 dX2_tries_177 (lv_at hl 9 rfl) ?_
                                      obtain ⟨fs107, hfs, hln, hw⟩ := hw
                                      refine hv_putN (v := .int (x88)) E hK hI ciX18 1 (Nat.le_of_ble_eq_true rfl) q1259 (fun _ h => h) rfl rfl rfl hfs hln dX2_tries_179 (fun H locs hI => ?_)
                                      obtain ⟨y106, ey106⟩ : ∃ w, w = hput y95 a2 (ob 16 (fs107.set 1 (.int (x88)))) := ⟨_, rfl⟩
                                      rw [← ey106] at hI
                                      replace hw := hw y106 ey106
                                      refine hv_aload_n (r := some a2) E.1 E.2.1 dX2_tries_182 rfl (lv_at hl 2 rfl) ?_
                                      refine lv_iload E.1 E.2.1 dX2_tries_183 (lv_at hl 0 rfl) ?_
                                      obtain ⟨fs109, hfs, hln, hw⟩ := hw
                                      refine hv_putN (v := .int (x105)) E hK hI ciX18 2 (Nat.le_of_ble_eq_true rfl) q1261 (fun _ h => h) rfl rfl rfl hfs hln dX2_tries_185 (fun H locs hI => ?_)
                                      obtain ⟨y108, ey108⟩ : ∃ w, w = hput y106 a2 (ob 16 (fs109.set 2 (.int (x105)))) := ⟨_, rfl⟩
                                      rw [← ey108] at hI
                                      replace hw := hw y108 ey108
                                      refine hv_aload_n (r := some a2) E.1 E.2.1 dX2_tries_188 rfl (lv_at hl 2 rfl) ?_
                                      refine hv_aload_n (r := some a13) E.1 E.2.1 dX2_tries_189 rfl (lv_at hl 1 rfl) ?_
                                      obtain ⟨f110, ⟨fs, hfs, hfk⟩, hw⟩ := hw
                                      refine hv_getN (v := va_rf f110) E hK hI ciX9 2 (Nat.le_of_ble_eq_true rfl) q812 (fun _ h => h) (Or.inl hfs) hfk dX2_tries_190 ?_
                                      obtain ⟨⟨fs113, hrv⟩, hw⟩ := hw
                                      have hq := hw
                                      clear hw
                                      refine hv_callq (u := u99) (B1 := 0) hI (vx_runU (C := "CaseGrouper$Tried") (owner := "CaseGrouper$Facts") (x := ⟨"CaseGrouper$Tried", "goes", "(Ljava/lang/Object;)LCaseGrouper$Leaf;"⟩) (As := [va_rf f110]) (rest := []) E (met_X3_goes_r16 l G (d) d_goes16 hq) (cw_any 1 E.2.2.2.2 (lw_meth q1294) rfl rfl q1289 q1290 (E.2.2.2.2 _ q1292) q1293 q126 (va_Decl.of (E.2.2.2.2 _ q1293) (E.2.2.2.2 _ q1294)) (by decide +kernel) (rm_ok (by omega) (by decide))) (hv_preV hK hI hrv rfl) rfl rfl hl.1 rfl (lv_room (by first | rfl | decide | (simp [va_rf_cat, int_cat, long_cat]; done) | (simp [va_rf_cat, int_cat, long_cat]; decide))) dX2_tries_193 (hv_fit (by first | exact hu | omega))) (fun _ _ _ _ _ h => h.elim) (fun r112 y111 H locs hw hI => ?_)
                                      refine lv_iconst (v := nI 1) E.1 E.2.1 dX2_tries_196 rfl ?_
                                      obtain ⟨a114, ea114, hw⟩ := hw
                                      revert hl hw; subst ea114; intro hl hw
                                      obtain ⟨fs116, hfs, hln, hw⟩ := hw
                                      refine hv_putN (v := .int (nI 1)) E hK hI ciX13 1 (Nat.le_of_ble_eq_true rfl) q1092 (fun _ h => h) rfl rfl rfl hfs hln dX2_tries_197 (fun H locs hI => ?_)
                                      obtain ⟨y115, ey115⟩ : ∃ w, w = hput y111 a114 (ob 11 (fs116.set 1 (.int (nI 1)))) := ⟨_, rfl⟩
                                      rw [← ey115] at hI
                                      replace hw := hw y115 ey115
                                      refine lv_iinc (k := 12) (v := x98 + nI 1) (lv' := [(12, .int (x98 + nI 1)), (13, .int (x105)), (1, va_rf (some a13)), (2, va_rf (some a2)), (3, .int (x9)), (4, va_rf (some a69)), (5, va_rf (some a89)), (6, va_rf (some a69)), (7, .int (x72)), (8, .int (x78)), (9, .int (x88)), (10, va_rf (some a89)), (11, .int (x92))]) E.1 E.2.1 dX2_tries_200 hl rfl rfl (Nat.le_of_ble_eq_true rfl) (by first | rfl | decide | (simp [va_rf_cat, int_cat, long_cat]; done) | (simp [va_rf_cat, int_cat, long_cat]; decide)) (fun ls hl => ?_)
                                      refine lv_goto (tgt := 162) E.1 E.2.1 dX2_tries_203 (by decide) ?_
                                      obtain ⟨n117, hnn117, hin117⟩ := hw
                                      exact ih96 n117 hnn117 _ _ _ hin117 _ _ _ hI (lv_sub hl [2, 3, 4, 5, 6, 7, 8, 9, 10, 11, 12, 0] rfl)
                                exact L97 n100 _ _ _ hi119 _ _ _ hI (lv_sub hl [4, 5, 6, 7, 8, 9, 10, 11, 3, 2, 1, 0] rfl)
                          exact L77 n80 _ _ _ hi121 _ _ _ hI (lv_sub hl [3, 4, 5, 6, 7, 2, 1, 0] rfl)
                    exact L60 n62 _ _ hi123 _ _ _ hI (lv_sub hl [0, 1, 2, 3, 4] rfl)
              exact L45 n47 _ _ hi125 _ _ _ hI (lv_sub hl [0, 1, 2, 3, 4] rfl)
        exact L34 n36 _ _ hi127 _ _ _ hI (lv_sub hl [3, 4, 5, 1, 0] rfl)
      · replace hw := hw.2 (c19)
        refine lv_iload_n E.1 E.2.1 dX2_tries_25 rfl (lv_at hl 3 rfl) ?_
        refine hv_aload_n (r := some a13) E.1 E.2.1 dX2_tries_26 rfl (lv_at hl 1 rfl) ?_
        obtain ⟨f128, ⟨fs, hfs, hfk⟩, hw⟩ := hw
        refine hv_getN (v := va_rf f128) E hK hI ciX9 3 (Nat.le_of_ble_eq_true rfl) q815 (fun _ h => h) (Or.inl hfs) hfk dX2_tries_27 ?_
        refine lv_iload E.1 E.2.1 dX2_tries_30 (lv_at hl 4 rfl) ?_
        obtain ⟨a129, ea129, hw⟩ := hw
        revert hl hw; subst ea129; intro hl hw
        obtain ⟨⟨fs132, hrv⟩, hw⟩ := hw
        have hq := hw
        clear hw
        refine hv_callq (u := u11) (B1 := 0) hI (vx_runV (As := [.int (x10)]) (rest := [.int (x9)]) E (met_J2_get l G (d + 56) hq) (cwV 1 E.2.2.2.2 (lw_V q784 q785 q786 q124 q787) rfl rfl rfl hd_J2_get (rm_ok (by omega) (by decide))) (hv_preV hK hI hrv rfl) rfl rfl hl.1 rfl (lv_room (by first | rfl | decide | (simp [va_rf_cat, int_cat, long_cat]; done) | (simp [va_rf_cat, int_cat, long_cat]; decide))) dX2_tries_32 (hv_fit (by first | exact hu | omega))) (fun _ _ _ _ _ h => h.elim) (fun r131 y130 H locs hw hI => ?_)
        obtain ⟨hof, hw⟩ := hw
        refine hv_castC (cn := 13) E hK hI (by decide) q1277 hof dX2_tries_35 ?_
        obtain ⟨a133, ea133, hw⟩ := hw
        revert hl hw; subst ea133; intro hl hw
        obtain ⟨⟨fs136, hrv⟩, hw⟩ := hw
        have hq := hw
        clear hw
        refine hv_callz (u := u11) (B1 := 0) hI (vx_runV (As := []) (rest := [.int (x9)]) E (met_X15_isOfCodes l G (d + 58) hq) (cwV 0 E.2.2.2.2 (lw_V q1278 q1147 q1148 q159 q1149) rfl rfl rfl hd_X15_isOfCodes (rm_ok (by omega) (by decide))) (hv_preV hK hI hrv rfl) rfl rfl hl.1 rfl (lv_room (by first | rfl | decide | (simp [va_rf_cat, int_cat, long_cat]; done) | (simp [va_rf_cat, int_cat, long_cat]; decide))) dX2_tries_38 (hv_fit (by first | exact hu | omega))) (fun _ _ _ _ _ h => h.elim) (fun b135 y134 H locs hw hI => ?_)
        refine lv_if_eq (tgt := 48) E.1 E.2.1 dX2_tries_41 (by decide) (fun c137 => ?_) (fun c137 => ?_)
        · replace hw := hw.1 (bi_z c137)
          refine lv_iconst (v := nI 0) E.1 E.2.1 dX2_tries_48 rfl ?_
          refine lv_iadd E.1 E.2.1 dX2_tries_49 ?_
          refine lv_topi (fun x138 ex138 => ?_)
          replace hw := hw x138 ex138
          refine lv_istore_n (lv' := [(3, .int (x138)), (0, va_rf (some a0)), (1, va_rf (some a13)), (2, va_rf (some a2)), (4, .int (x10))]) E.1 E.2.1 dX2_tries_50 rfl hl (Nat.le_of_ble_eq_true rfl) (by first | rfl | decide | (simp [va_rf_cat, int_cat, long_cat]; done) | (simp [va_rf_cat, int_cat, long_cat]; decide)) (fun ls hl => ?_)
          refine lv_iinc (k := 4) (v := x10 + nI 1) (lv' := [(4, .int (x10 + nI 1)), (3, .int (x138)), (0, va_rf (some a0)), (1, va_rf (some a13)), (2, va_rf (some a2))]) E.1 E.2.1 dX2_tries_51 hl rfl rfl (Nat.le_of_ble_eq_true rfl) (by first | rfl | decide | (simp [va_rf_cat, int_cat, long_cat]; done) | (simp [va_rf_cat, int_cat, long_cat]; decide)) (fun ls hl => ?_)
          refine lv_goto (tgt := 13) E.1 E.2.1 dX2_tries_54 (by decide) ?_
          obtain ⟨n139, hnn139, hin139⟩ := hw
          exact ih7 n139 hnn139 _ _ _ _ hin139 _ _ _ hI (lv_sub hl [2, 3, 4, 1, 0] rfl)
        · replace hw := hw.2 (bi_n c137)
          refine lv_iconst (v := nI 1) E.1 E.2.1 dX2_tries_44 rfl ?_
          refine lv_goto (tgt := 49) E.1 E.2.1 dX2_tries_45 (by decide) ?_
          refine lv_iadd E.1 E.2.1 dX2_tries_49 ?_
          refine lv_topi (fun x140 ex140 => ?_)
          replace hw := hw x140 ex140
          refine lv_istore_n (lv' := [(3, .int (x140)), (0, va_rf (some a0)), (1, va_rf (some a13)), (2, va_rf (some a2)), (4, .int (x10))]) E.1 E.2.1 dX2_tries_50 rfl hl (Nat.le_of_ble_eq_true rfl) (by first | rfl | decide | (simp [va_rf_cat, int_cat, long_cat]; done) | (simp [va_rf_cat, int_cat, long_cat]; decide)) (fun ls hl => ?_)
          refine lv_iinc (k := 4) (v := x10 + nI 1) (lv' := [(4, .int (x10 + nI 1)), (3, .int (x140)), (0, va_rf (some a0)), (1, va_rf (some a13)), (2, va_rf (some a2))]) E.1 E.2.1 dX2_tries_51 hl rfl rfl (Nat.le_of_ble_eq_true rfl) (by first | rfl | decide | (simp [va_rf_cat, int_cat, long_cat]; done) | (simp [va_rf_cat, int_cat, long_cat]; decide)) (fun ls hl => ?_)
          refine lv_goto (tgt := 13) E.1 E.2.1 dX2_tries_54 (by decide) ?_
          obtain ⟨n141, hnn141, hin141⟩ := hw
          exact ih7 n141 hnn141 _ _ _ _ hin141 _ _ _ hI (lv_sub hl [2, 3, 4, 1, 0] rfl)
  exact L8 n12 _ _ _ _ hi143 _ _ _ hI (lv_sub hl [3, 4, 2, 1, 0] rfl)
/-- CaseGrouper$Edition.ends()V -/
def wp_X2_ends (G : GP) (B : Nat) (post : HS → Prop) (y0 : HS) (a0 : Nat) : Prop := ∃ I1 : Nat → HS → Nat → Int32 → Prop, (∃ n8, I1 n8 y0 0 (nI 0)) ∧ ∀ (n2 : Nat) (y3 : HS) (u7 : Nat) (x6 : Int32), I1 n2 y3 u7 x6 → u7 ≤ B ∧ ∃ f9, fR y3 a0 1 0 f9 ∧ ∃ a10, f9 = some a10 ∧ (∃ fs13, rd G y3 a10 (ob 18 fs13)) ∧ wp_J2_size G (fun x12 y11 => (x12 ≤ x6 → post y11) ∧ (¬ x12 ≤ x6 → ∃ f15, fR y11 a0 1 0 f15 ∧ ∃ a16, f15 = some a16 ∧ (∃ fs19, rd G y11 a16 (ob 18 fs19)) ∧ wp_J2_get G (fun r18 y17 => isOf G y17 r18 7 ∧ ∃ I20 : Nat → HS → Nat → Int32 → Prop, (∃ n27, I20 n27 y17 u7 (nI 0)) ∧ ∀ (n21 : Nat) (y22 : HS) (u26 : Nat) (x25 : Int32), I20 n21 y22 u26 x25 → u26 ≤ B ∧ ∃ a28, r18 = some a28 ∧ ∃ f29, fR y22 a28 7 4 f29 ∧ ∃ a30, f29 = some a30 ∧ (∃ fs33, rd G y22 a30 (ob 18 fs33)) ∧ wp_J2_size G (fun x32 y31 => (x32 ≤ x25 → (∃ fs36, rd G y31 a0 (ob 1 fs36)) ∧ ∃ k37, u26 + k37 ≤ B ∧ wp_X2_tries G k37 (fun y35 => ∃ n38, n38 < n2 ∧ I1 n38 y35 ((u26 + k37)) (x6 + nI 1)) y31 a0 (some a28)) ∧ (¬ x32 ≤ x25 → ∃ f39, fR y31 a0 1 3 f39 ∧ ∃ f40, fR y31 a28 7 4 f40 ∧ ∃ a41, f40 = some a41 ∧ (∃ fs44, rd G y31 a41 (ob 18 fs44)) ∧ wp_J2_get G (fun r43 y42 => isOf G y42 r43 11 ∧ ∃ a45, f39 = some a45 ∧ (∃ fs48, rd G y42 a45 (ob 18 fs48)) ∧ ∃ k49, u26 + k49 ≤ B ∧ wp_J2_add G k49 (fun b47 y46 => ∃ f50, fR y46 a0 1 4 f50 ∧ ∃ a51, f50 = some a51 ∧ (∃ fs54, rd G y46 a51 (ob 18 fs54)) ∧ ∃ k55, (u26 + k49) + k55 ≤ B ∧ wp_J2_add G k55 (fun b53 y52 => ∃ n56, n56 < n21 ∧ I20 n56 y52 (((u26 + k49) + k55)) (x25 + nI 1)) y46 a51 (some a28)) y42 a45 r43) y31 a41 x25)) y22 a30) y11 a16 x6)) y3 a10
theorem hs_X2_ends : yX2_ends.cls ≠ "java/lang/invoke/MethodHandle" ∧ yX2_ends.cls ≠ "java/lang/invoke/VarHandle" ∧ (parseMethodDescriptor yX2_ends.desc).map (fun d => d.parameters.length) = some 0 := by decide +kernel
theorem hd_X2_ends : yX2_ends.cls = RX2 ∧ yX2_ends.cls ≠ "java/lang/invoke/MethodHandle" ∧ yX2_ends.cls ≠ "java/lang/invoke/VarHandle" ∧ (parseMethodDescriptor yX2_ends.desc).map (fun d => d.parameters.length) = some 0 := by decide +kernel
set_option maxHeartbeats 4000000 in
theorem met_X2_ends (l : Launch) (G : GP) (d : Nat) {B : Nat} {post : HS → Prop} {y0 : HS} {a0 : Nat} (hw : wp_X2_ends G B post y0 a0) : vx_Met l yX2_ends (ws_ yX2_ends cX2_ends 4 none) (rmB (d + 60) B) (hPc G y0 [va_rf (some a0)]) (hQv G y0 post) (hX G y0 (fun _ _ _ => False)) B (20 * B) (HA y0) := by
  unfold wp_X2_ends at hw
  refine hv_met (own := RX2) (by decide) rfl (Nat.le_of_ble_eq_true rfl) ?_
  intro p e s m args below meth c ls E hr hlocks hnm hE hK hI hl
  replace hl : lv_has ls 4 [(0, va_rf (some a0))] := hl
  have hu : 0 ≤ B := Nat.zero_le _
  refine lv_iconst (v := nI 0) E.1 E.2.1 dX2_ends_0 rfl ?_
  refine lv_istore_n (lv' := [(1, .int (nI 0)), (0, va_rf (some a0))]) E.1 E.2.1 dX2_ends_1 rfl hl (Nat.le_of_ble_eq_true rfl) (by first | rfl | decide | (simp [va_rf_cat, int_cat, long_cat]; done) | (simp [va_rf_cat, int_cat, long_cat]; decide)) (fun ls hl => ?_)
  obtain ⟨I1, ⟨n8, hi60⟩, hb59⟩ := hw
  have L5 : ∀ (n2 : Nat) (y3 : HS) (u7 : Nat) (x6 : Int32), I1 n2 y3 u7 x6 → ∀ (H : Heap) (locs : List Loc) (ls : Array Slot), HI G y0 y3 s H locs → lv_has ls 4 [(0, va_rf (some a0)), (1, .int (x6))] → W p l e (rmB (d + 60) B) s m args below meth c H locs u7 (20 * u7) (vx_MQ below (hQv G y0 post) (hX G y0 (fun _ _ _ => False)) args s B (20 * B) (HA y0)) (F0 m 2 ls []) := by
    intro n2
    induction n2 using Nat.strongRecOn with
    | _ n2 ih4 =>
      intro y3 u7 x6 hw H locs ls hI hl
      replace hw := hb59 n2 y3 u7 x6 hw
      obtain ⟨hu, hw⟩ := hw
      refine lv_iload_n E.1 E.2.1 dX2_ends_2 rfl (lv_at hl 1 rfl) ?_
      refine hv_aload_n (r := some a0) E.1 E.2.1 dX2_ends_3 rfl (lv_at hl 0 rfl) ?_
      obtain ⟨f9, ⟨fs, hfs, hfk⟩, hw⟩ := hw
      refine hv_get (v := va_rf f9) E hK hI ciX2 0 (Nat.le_of_ble_eq_true rfl) q230 (fun _ h => h) (Or.inl hfs) hfk dX2_ends_4 ?_
      obtain ⟨a10, ea10, hw⟩ := hw
      revert hl hw; subst ea10; intro hl hw
      obtain ⟨⟨fs13, hrv⟩, hw⟩ := hw
      have hq := hw
      clear hw
      refine hv_calli (u := u7) (B1 := 0) hI (vx_runV (As := []) (rest := [.int (x6)]) E (met_J2_size l G (d + 59) hq) (cwV 0 E.2.2.2.2 (lw_V q783 q752 q753 q124 q754) rfl rfl rfl hd_J2_size (rm_ok (by omega) (by decide))) (hv_preV hK hI hrv rfl) rfl rfl hl.1 rfl (lv_room (by first | rfl | decide | (simp [va_rf_cat, int_cat, long_cat]; done) | (simp [va_rf_cat, int_cat, long_cat]; decide))) dX2_ends_7 (hv_fit (by first | exact hu | omega))) (fun _ _ _ _ _ h => h.elim) (fun x12 y11 H locs hw hI => ?_)
      refine lv_icmp_ge (tgt := 83) E.1 E.2.1 dX2_ends_10 (by decide) (fun c14 => ?_) (fun c14 => ?_)
      · replace hw := hw.1 (c14)
        exact hv_vret E hr hlocks hI hu hw dX2_ends_83
      · replace hw := hw.2 (c14)
        refine hv_aload_n (r := some a0) E.1 E.2.1 dX2_ends_13 rfl (lv_at hl 0 rfl) ?_
        obtain ⟨f15, ⟨fs, hfs, hfk⟩, hw⟩ := hw
        refine hv_get (v := va_rf f15) E hK hI ciX2 0 (Nat.le_of_ble_eq_true rfl) q230 (fun _ h => h) (Or.inl hfs) hfk dX2_ends_14 ?_
        refine lv_iload_n E.1 E.2.1 dX2_ends_17 rfl (lv_at hl 1 rfl) ?_
        obtain ⟨a16, ea16, hw⟩ := hw
        revert hl hw; subst ea16; intro hl hw
        obtain ⟨⟨fs19, hrv⟩, hw⟩ := hw
        have hq := hw
        clear hw
        refine hv_callq (u := u7) (B1 := 0) hI (vx_runV (As := [.int (x6)]) (rest := []) E (met_J2_get l G (d + 57) hq) (cwV 1 E.2.2.2.2 (lw_V q784 q785 q786 q124 q787) rfl rfl rfl hd_J2_get (rm_ok (by omega) (by decide))) (hv_preV hK hI hrv rfl) rfl rfl hl.1 rfl (lv_room (by first | rfl | decide | (simp [va_rf_cat, int_cat, long_cat]; done) | (simp [va_rf_cat, int_cat, long_cat]; decide))) dX2_ends_18 (hv_fit (by first | exact hu | omega))) (fun _ _ _ _ _ h => h.elim) (fun r18 y17 H locs hw hI => ?_)
        obtain ⟨hof, hw⟩ := hw
        refine hv_castC (cn := 7) E hK hI (by decide) q796 hof dX2_ends_21 ?_
        refine hv_astore_n (r := r18) (lv' := [(2, va_rf r18), (0, va_rf (some a0)), (1, .int (x6))]) E.1 E.2.1 dX2_ends_24 rfl hl (Nat.le_of_ble_eq_true rfl) (by first | rfl | decide | (simp [va_rf_cat, int_cat, long_cat]; done) | (simp [va_rf_cat, int_cat, long_cat]; decide)) (fun ls hl => ?_)
        refine lv_iconst (v := nI 0) E.1 E.2.1 dX2_ends_25 rfl ?_
        refine lv_istore_n (lv' := [(3, .int (nI 0)), (2, va_rf r18), (0, va_rf (some a0)), (1, .int (x6))]) E.1 E.2.1 dX2_ends_26 rfl hl (Nat.le_of_ble_eq_true rfl) (by first | rfl | decide | (simp [va_rf_cat, int_cat, long_cat]; done) | (simp [va_rf_cat, int_cat, long_cat]; decide)) (fun ls hl => ?_)
        obtain ⟨I20, ⟨n27, hi58⟩, hb57⟩ := hw
        have L24 : ∀ (n21 : Nat) (y22 : HS) (u26 : Nat) (x25 : Int32), I20 n21 y22 u26 x25 → ∀ (H : Heap) (locs : List Loc) (ls : Array Slot), HI G y0 y22 s H locs → lv_has ls 4 [(0, va_rf (some a0)), (1, .int (x6)), (2, va_rf r18), (3, .int (x25))] → W p l e (rmB (d + 60) B) s m args below meth c H locs u26 (20 * u26) (vx_MQ below (hQv G y0 post) (hX G y0 (fun _ _ _ => False)) args s B (20 * B) (HA y0)) (F0 m 27 ls []) := by
          intro n21
          induction n21 using Nat.strongRecOn with
          | _ n21 ih23 =>
            intro y22 u26 x25 hw H locs ls hI hl
            replace hw := hb57 n21 y22 u26 x25 hw
            obtain ⟨hu, hw⟩ := hw
            refine lv_iload_n E.1 E.2.1 dX2_ends_27 rfl (lv_at hl 3 rfl) ?_
            refine hv_aload_n (r := r18) E.1 E.2.1 dX2_ends_28 rfl (lv_at hl 2 rfl) ?_
            obtain ⟨a28, ea28, hw⟩ := hw
            revert hl hw; subst ea28; intro hl hw
            obtain ⟨f29, ⟨fs, hfs, hfk⟩, hw⟩ := hw
            refine hv_getN (v := va_rf f29) E hK hI ciX9 4 (Nat.le_of_ble_eq_true rfl) q818 (fun _ h => h) (Or.inl hfs) hfk dX2_ends_29 ?_
            obtain ⟨a30, ea30, hw⟩ := hw
            revert hl hw; subst ea30; intro hl hw
            obtain ⟨⟨fs33, hrv⟩, hw⟩ := hw
            have hq := hw
            clear hw
            refine hv_calli (u := u26) (B1 := 0) hI (vx_runV (As := []) (rest := [.int (x25)]) E (met_J2_size l G (d + 59) hq) (cwV 0 E.2.2.2.2 (lw_V q783 q752 q753 q124 q754) rfl rfl rfl hd_J2_size (rm_ok (by omega) (by decide))) (hv_preV hK hI hrv rfl) rfl rfl hl.1 rfl (lv_room (by first | rfl | decide | (simp [va_rf_cat, int_cat, long_cat]; done) | (simp [va_rf_cat, int_cat, long_cat]; decide))) dX2_ends_32 (hv_fit (by first | exact hu | omega))) (fun _ _ _ _ _ h => h.elim) (fun x32 y31 H locs hw hI => ?_)
            refine lv_icmp_ge (tgt := 72) E.1 E.2.1 dX2_ends_35 (by decide) (fun c34 => ?_) (fun c34 => ?_)
            · replace hw := hw.1 (c34)
              refine hv_aload_n (r := some a0) E.1 E.2.1 dX2_ends_72 rfl (lv_at hl 0 rfl) ?_
              refine hv_aload_n (r := some a28) E.1 E.2.1 dX2_ends_73 rfl (lv_at hl 2 rfl) ?_
              obtain ⟨⟨fs36, hrv⟩, hw⟩ := hw
              obtain ⟨k37, hB, hw⟩ := hw
              have hq := hw
              clear hw
              refine hv_callv (u := u26) (B1 := k37) hI (vx_runV (As := [va_rf (some a28)]) (rest := []) E (met_X2_tries l G (d) hq) (cwV 1 E.2.2.2.2 (lw_V q1243 q1245 qs41 q125 q1246) rfl rfl rfl hd_X2_tries (rm_ok (by omega) (by decide))) (hv_preV hK hI hrv rfl) rfl rfl hl.1 rfl (lv_room (by first | rfl | decide | (simp [va_rf_cat, int_cat, long_cat]; done) | (simp [va_rf_cat, int_cat, long_cat]; decide))) dX2_ends_74 (hv_fit (by first | exact hB | omega))) (fun _ _ _ _ _ h => h.elim) (fun y35 H locs hw hI => ?_)
              have hu := hB
              refine lv_iinc (k := 1) (v := x6 + nI 1) (lv' := [(1, .int (x6 + nI 1)), (0, va_rf (some a0)), (2, va_rf (some a28)), (3, .int (x25))]) E.1 E.2.1 dX2_ends_77 hl rfl rfl (Nat.le_of_ble_eq_true rfl) (by first | rfl | decide | (simp [va_rf_cat, int_cat, long_cat]; done) | (simp [va_rf_cat, int_cat, long_cat]; decide)) (fun ls hl => ?_)
              refine lv_goto (tgt := 2) E.1 E.2.1 dX2_ends_80 (by decide) ?_
              obtain ⟨n38, hnn38, hin38⟩ := hw
              exact ih4 n38 hnn38 _ _ _ hin38 _ _ _ hI (lv_sub hl [1, 0] rfl)
            · replace hw := hw.2 (c34)
              refine hv_aload_n (r := some a0) E.1 E.2.1 dX2_ends_38 rfl (lv_at hl 0 rfl) ?_
              obtain ⟨f39, ⟨fs, hfs, hfk⟩, hw⟩ := hw
              refine hv_get (v := va_rf f39) E hK hI ciX2 3 (Nat.le_of_ble_eq_true rfl) q242 (fun _ h => h) (Or.inl hfs) hfk dX2_ends_39 ?_
              refine hv_aload_n (r := some a28) E.1 E.2.1 dX2_ends_42 rfl (lv_at hl 2 rfl) ?_
              obtain ⟨f40, ⟨fs, hfs, hfk⟩, hw⟩ := hw
              refine hv_getN (v := va_rf f40) E hK hI ciX9 4 (Nat.le_of_ble_eq_true rfl) q818 (fun _ h => h) (Or.inl hfs) hfk dX2_ends_43 ?_
              refine lv_iload_n E.1 E.2.1 dX2_ends_46 rfl (lv_at hl 3 rfl) ?_
              obtain ⟨a41, ea41, hw⟩ := hw
              revert hl hw; subst ea41; intro hl hw
              obtain ⟨⟨fs44, hrv⟩, hw⟩ := hw
              have hq := hw
              clear hw
              refine hv_callq (u := u26) (B1 := 0) hI (vx_runV (As := [.int (x25)]) (rest := [va_rf f39]) E (met_J2_get l G (d + 57) hq) (cwV 1 E.2.2.2.2 (lw_V q784 q785 q786 q124 q787) rfl rfl rfl hd_J2_get (rm_ok (by omega) (by decide))) (hv_preV hK hI hrv rfl) rfl rfl hl.1 rfl (lv_room (by first | rfl | decide | (simp [va_rf_cat, int_cat, long_cat]; done) | (simp [va_rf_cat, int_cat, long_cat]; decide))) dX2_ends_47 (hv_fit (by first | exact hu | omega))) (fun _ _ _ _ _ h => h.elim) (fun r43 y42 H locs hw hI => ?_)
              obtain ⟨hof, hw⟩ := hw
              refine hv_castC (cn := 11) E hK hI (by decide) q1241 hof dX2_ends_50 ?_
              obtain ⟨a45, ea45, hw⟩ := hw
              revert hl hw; subst ea45; intro hl hw
              obtain ⟨⟨fs48, hrv⟩, hw⟩ := hw
              obtain ⟨k49, hB, hw⟩ := hw
              have hq := hw
              clear hw
              refine hv_callz (u := u26) (B1 := k49) hI (vx_runV (As := [va_rf r43]) (rest := []) E (met_J2_add l G (d + 53) hq) (cwV 1 E.2.2.2.2 (lw_V q1242 q910 q911 q124 q912) rfl rfl rfl hd_J2_add (rm_ok (by omega) (by decide))) (hv_preV hK hI hrv rfl) rfl rfl hl.1 rfl (lv_room (by first | rfl | decide | (simp [va_rf_cat, int_cat, long_cat]; done) | (simp [va_rf_cat, int_cat, long_cat]; decide))) dX2_ends_53 (hv_fit (by first | exact hB | omega))) (fun _ _ _ _ _ h => h.elim) (fun b47 y46 H locs hw hI => ?_)
              have hu := hB
              refine lv_pop E.1 E.2.1 dX2_ends_56 rfl ?_
              refine hv_aload_n (r := some a0) E.1 E.2.1 dX2_ends_57 rfl (lv_at hl 0 rfl) ?_
              obtain ⟨f50, ⟨fs, hfs, hfk⟩, hw⟩ := hw
              refine hv_get (v := va_rf f50) E hK hI ciX2 4 (Nat.le_of_ble_eq_true rfl) q244 (fun _ h => h) (Or.inl hfs) hfk dX2_ends_58 ?_
              refine hv_aload_n (r := some a28) E.1 E.2.1 dX2_ends_61 rfl (lv_at hl 2 rfl) ?_
              obtain ⟨a51, ea51, hw⟩ := hw
              revert hl hw; subst ea51; intro hl hw
              obtain ⟨⟨fs54, hrv⟩, hw⟩ := hw
              obtain ⟨k55, hB, hw⟩ := hw
              have hq := hw
              clear hw
              refine hv_callz (u := ((u26 + k49))) (B1 := k55) hI (vx_runV (As := [va_rf (some a28)]) (rest := []) E (met_J2_add l G (d + 53) hq) (cwV 1 E.2.2.2.2 (lw_V q1242 q910 q911 q124 q912) rfl rfl rfl hd_J2_add (rm_ok (by omega) (by decide))) (hv_preV hK hI hrv rfl) rfl rfl hl.1 rfl (lv_room (by first | rfl | decide | (simp [va_rf_cat, int_cat, long_cat]; done) | (simp [va_rf_cat, int_cat, long_cat]; decide))) dX2_ends_62 (hv_fit (by first | exact hB | omega))) (fun _ _ _ _ _ h => h.elim) (fun b53 y52 H locs hw hI => ?_)
              have hu := hB
              refine lv_pop E.1 E.2.1 dX2_ends_65 rfl ?_
              refine lv_iinc (k := 3) (v := x25 + nI 1) (lv' := [(3, .int (x25 + nI 1)), (0, va_rf (some a0)), (1, .int (x6)), (2, va_rf (some a28))]) E.1 E.2.1 dX2_ends_66 hl rfl rfl (Nat.le_of_ble_eq_true rfl) (by first | rfl | decide | (simp [va_rf_cat, int_cat, long_cat]; done) | (simp [va_rf_cat, int_cat, long_cat]; decide)) (fun ls hl => ?_)
              refine lv_goto (tgt := 27) E.1 E.2.1 dX2_ends_69 (by decide) ?_
              obtain ⟨n56, hnn56, hin56⟩ := hw
              exact ih23 n56 hnn56 _ _ _ hin56 _ _ _ hI (lv_sub hl [1, 2, 3, 0] rfl)
        exact L24 n27 _ _ _ hi58 _ _ _ hI (lv_sub hl [2, 3, 1, 0] rfl)
  exact L5 n8 _ _ _ hi60 _ _ _ hI (lv_sub hl [1, 0] rfl)
