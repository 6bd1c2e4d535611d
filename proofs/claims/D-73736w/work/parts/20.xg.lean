/-! the component, part g: weakest preconditions and walks (printed) -/
set_option maxRecDepth 100000
/-- CaseGrouper.eight(J)V -/
def wp_X1_eight (G : GP) (post : HS → Prop) (y0 : HS) (a0 : Nat) (j1 : Int64) : Prop := ∃ I1 : Nat → HS → Int32 → Prop, (∃ n7, I1 n7 y0 (nI 56)) ∧ ∀ (n2 : Nat) (y3 : HS) (x6 : Int32), I1 n2 y3 x6 → (x6 < 0 → post y3) ∧ (¬ x6 < 0 → ∃ f9, fR y3 a0 0 0 f9 ∧ ∃ f10, fI y3 a0 0 1 f10 ∧ ∃ a14, f9 = some a14 ∧ ∃ (n11 : Nat) (g12 : Nat → Int32), y3.1 a14 = some (ai 3 n11 g12) ∧ vp_in f10 n11 ∧ ∀ y13, y13 = hput y3 a14 (ai 3 n11 (upd g12 f10.toNatClampNeg (vp_nar .byte (((j1 >>> (x6.toInt64 &&& 63)).toInt32).toInt8.toInt32)))) → ∃ f15, fI y13 a0 0 1 f15 ∧ ∃ fs17, y13.1 a0 = some (ob 0 fs17) ∧ 1 < fs17.length ∧ ∀ y16, y16 = hput y13 a0 (ob 0 (fs17.set 1 (.int (f15 + (nI 1))))) → ∃ n18, n18 < n2 ∧ I1 n18 y16 (x6 + (-8)))
theorem hs_X1_eight : yX1_eight.cls ≠ "java/lang/invoke/MethodHandle" ∧ yX1_eight.cls ≠ "java/lang/invoke/VarHandle" ∧ (parseMethodDescriptor yX1_eight.desc).map (fun d => d.parameters.length) = some 1 := by decide +kernel
theorem hd_X1_eight : yX1_eight.cls = RX1 ∧ yX1_eight.cls ≠ "java/lang/invoke/MethodHandle" ∧ yX1_eight.cls ≠ "java/lang/invoke/VarHandle" ∧ (parseMethodDescriptor yX1_eight.desc).map (fun d => d.parameters.length) = some 1 := by decide +kernel
set_option maxHeartbeats 4000000 in
theorem met_X1_eight (l : Launch) (htr : l.stackTraces = false) (G : GP) (d : Nat) {post : HS → Prop} {y0 : HS} {a0 : Nat} {j1 : Int64} (hw : wp_X1_eight G post y0 a0 j1) : vx_Met l yX1_eight (ws_ yX1_eight cX1_eight 4 none) (rmB (d + 0) 0) (hPc G y0 [va_rf (some a0), .long (j1)]) (hQv G y0 post) (hX G y0 (fun _ _ _ => False)) 0 (20 * 0) (HA y0) := by
  unfold wp_X1_eight at hw
  refine hv_met (own := RX1) (by decide) rfl (Nat.le_of_ble_eq_true rfl) ?_
  intro p e s m args below meth c ls E hr hlocks hnm hE hK hI hl
  replace hl : lv_has ls 4 [(0, va_rf (some a0)), (1, .long (j1))] := hl
  refine lv_bipush (v := nI 56) E.1 E.2.1 dX1_eight_0 rfl ?_
  refine lv_istore_n (lv' := [(3, .int (nI 56)), (0, va_rf (some a0)), (1, .long (j1))]) E.1 E.2.1 dX1_eight_2 rfl hl (Nat.le_of_ble_eq_true rfl) (by first | rfl | decide | (simp [va_rf_cat, int_cat, long_cat]; done) | (simp [va_rf_cat, int_cat, long_cat]; decide)) (fun ls hl => ?_)
  obtain ⟨I1, ⟨n7, hi20⟩, hb19⟩ := hw
  have L5 : ∀ (n2 : Nat) (y3 : HS) (x6 : Int32), I1 n2 y3 x6 → ∀ (H : Heap) (locs : List Loc) (ls : Array Slot), HI G y0 y3 s H locs → lv_has ls 4 [(0, va_rf (some a0)), (1, .long (j1)), (3, .int (x6))] → W p l e (rmB (d + 0) 0) s m args below meth c H locs 0 (20 * 0) (vx_MQ below (hQv G y0 post) (hX G y0 (fun _ _ _ => False)) args s 0 (20 * 0) (HA y0)) (F0 m 3 ls []) := by
    intro n2
    induction n2 using Nat.strongRecOn with
    | _ n2 ih4 =>
      intro y3 x6 hw H locs ls hI hl
      replace hw := hb19 n2 y3 x6 hw
      refine lv_iload_n E.1 E.2.1 dX1_eight_3 rfl (lv_at hl 2 rfl) ?_
      refine lv_if_lt (tgt := 37) E.1 E.2.1 dX1_eight_4 (by decide) (fun c8 => ?_) (fun c8 => ?_)
      · replace hw := hw.1 (c8)
        exact hv_vret E hr hlocks hI (Nat.le_refl 0) hw dX1_eight_37
      · replace hw := hw.2 (c8)
        refine hv_aload_n (r := some a0) E.1 E.2.1 dX1_eight_7 rfl (lv_at hl 0 rfl) ?_
        obtain ⟨f9, ⟨fs, hfs, hfk⟩, hw⟩ := hw
        refine hv_get (v := va_rf f9) E hK hI ciX1 0 (Nat.le_of_ble_eq_true rfl) q1420 (fun _ h => h) (Or.inl hfs) hfk dX1_eight_8 ?_
        refine hv_aload_n (r := some a0) E.1 E.2.1 dX1_eight_11 rfl (lv_at hl 0 rfl) ?_
        obtain ⟨f10, ⟨fs, hfs, hfk⟩, hw⟩ := hw
        refine hv_get (v := .int f10) E hK hI ciX1 1 (Nat.le_of_ble_eq_true rfl) q1421 (fun _ h => h) (Or.inl hfs) hfk dX1_eight_12 ?_
        refine lv_lload_n E.1 E.2.1 dX1_eight_15 rfl (lv_at hl 1 rfl) ?_
        refine lv_iload_n E.1 E.2.1 dX1_eight_16 rfl (lv_at hl 2 rfl) ?_
        refine lv_lshr E.1 E.2.1 dX1_eight_17 rfl ?_
        refine lv_l2i E.1 E.2.1 dX1_eight_18 rfl ?_
        refine lv_i2b E.1 E.2.1 dX1_eight_19 rfl ?_
        obtain ⟨a14, ea14, hw⟩ := hw
        rw [ea14]
        obtain ⟨n11, g12, hra, hin, hw⟩ := hw
        refine hv_bast E hK hI hra hin dX1_eight_20 (fun H locs hI => ?_)
        obtain ⟨y13, ey13⟩ : ∃ w, w = hput y3 a14 (ai 3 n11 (upd g12 f10.toNatClampNeg (vp_nar .byte (((j1 >>> (x6.toInt64 &&& 63)).toInt32).toInt8.toInt32)))) := ⟨_, rfl⟩
        rw [← ey13] at hI
        replace hw := hw y13 ey13
        refine hv_aload_n (r := some a0) E.1 E.2.1 dX1_eight_21 rfl (lv_at hl 0 rfl) ?_
        refine hv_dup E.1 E.2.1 dX1_eight_22 ?_
        obtain ⟨f15, ⟨fs, hfs, hfk⟩, hw⟩ := hw
        refine hv_get (v := .int f15) E hK hI ciX1 1 (Nat.le_of_ble_eq_true rfl) q1421 (fun _ h => h) (Or.inl hfs) hfk dX1_eight_23 ?_
        refine lv_iconst (v := nI 1) E.1 E.2.1 dX1_eight_26 rfl ?_
        refine lv_iadd E.1 E.2.1 dX1_eight_27 ?_
        obtain ⟨fs17, hfs, hln, hw⟩ := hw
        refine hv_put (v := .int (f15 + (nI 1))) E hK hI ciX1 1 (Nat.le_of_ble_eq_true rfl) q1421 (fun _ h => h) rfl rfl rfl hfs hln dX1_eight_28 (fun H locs hI => ?_)
        obtain ⟨y16, ey16⟩ : ∃ w, w = hput y13 a0 (ob 0 (fs17.set 1 (.int (f15 + (nI 1))))) := ⟨_, rfl⟩
        rw [← ey16] at hI
        replace hw := hw y16 ey16
        refine lv_iinc (k := 2) (v := x6 + (-8)) (lv' := [(3, .int (x6 + (-8))), (0, va_rf (some a0)), (1, .long (j1))]) E.1 E.2.1 dX1_eight_31 hl rfl rfl (Nat.le_of_ble_eq_true rfl) (by first | rfl | decide | (simp [va_rf_cat, int_cat, long_cat]; done) | (simp [va_rf_cat, int_cat, long_cat]; decide)) (fun ls hl => ?_)
        refine lv_goto (tgt := 3) E.1 E.2.1 dX1_eight_34 (by decide) ?_
        obtain ⟨n18, hnn18, hin18⟩ := hw
        exact ih4 n18 hnn18 _ _ hin18 _ _ _ hI (lv_sub hl [1, 2, 0] rfl)
  exact L5 n7 _ _ hi20 _ _ _ hI (lv_sub hl [1, 2, 0] rfl)
/-- CaseGrouper.feed(JJJ)I -/
def wp_X1_feed (G : GP) (post : Int32 → HS → Prop) (y0 : HS) (a0 : Nat) (j1 : Int64) (j3 : Int64) (j5 : Int64) : Prop := ∃ f1, fI y0 a0 0 1 f1 ∧ ((f1 + (nI 24)) ≤ (nI 936) → (∃ fs4, rd G y0 a0 (ob 0 fs4)) ∧ wp_X1_eight G (fun y3 => (∃ fs6, rd G y3 a0 (ob 0 fs6)) ∧ wp_X1_eight G (fun y5 => (∃ fs8, rd G y5 a0 (ob 0 fs8)) ∧ wp_X1_eight G (fun y7 => ∃ f9, fI y7 a0 0 1 f9 ∧ post f9 y7) y5 a0 j5) y3 a0 j3) y0 a0 j1) ∧ (¬ (f1 + (nI 24)) ≤ (nI 936) → post ((-1)) y0)
theorem hs_X1_feed : yX1_feed.cls ≠ "java/lang/invoke/MethodHandle" ∧ yX1_feed.cls ≠ "java/lang/invoke/VarHandle" ∧ (parseMethodDescriptor yX1_feed.desc).map (fun d => d.parameters.length) = some 3 := by decide +kernel
theorem hd_X1_feed : yX1_feed.cls = RX1 ∧ yX1_feed.cls ≠ "java/lang/invoke/MethodHandle" ∧ yX1_feed.cls ≠ "java/lang/invoke/VarHandle" ∧ (parseMethodDescriptor yX1_feed.desc).map (fun d => d.parameters.length) = some 3 := by decide +kernel
set_option maxHeartbeats 4000000 in
theorem met_X1_feed (l : Launch) (htr : l.stackTraces = false) (G : GP) (d : Nat) {post : Int32 → HS → Prop} {y0 : HS} {a0 : Nat} {j1 : Int64} {j3 : Int64} {j5 : Int64} (hw : wp_X1_feed G post y0 a0 j1 j3 j5) : vx_Met l yX1_feed (ws_ yX1_feed cX1_feed 7 (some .int)) (rmB (d + 1) 0) (hPc G y0 [va_rf (some a0), .long (j1), .long (j3), .long (j5)]) (hQi G y0 post) (hX G y0 (fun _ _ _ => False)) 0 (20 * 0) (HA y0) := by
  unfold wp_X1_feed at hw
  refine hv_met (own := RX1) (by decide) rfl (Nat.le_of_ble_eq_true rfl) ?_
  intro p e s m args below meth c ls E hr hlocks hnm hE hK hI hl
  replace hl : lv_has ls 7 [(0, va_rf (some a0)), (1, .long (j1)), (3, .long (j3)), (5, .long (j5))] := hl
  refine hv_aload_n (r := some a0) E.1 E.2.1 dX1_feed_0 rfl (lv_at hl 0 rfl) ?_
  obtain ⟨f1, ⟨fs, hfs, hfk⟩, hw⟩ := hw
  refine hv_get (v := .int f1) E hK hI ciX1 1 (Nat.le_of_ble_eq_true rfl) q1421 (fun _ h => h) (Or.inl hfs) hfk dX1_feed_1 ?_
  refine lv_bipush (v := nI 24) E.1 E.2.1 dX1_feed_4 rfl ?_
  refine lv_iadd E.1 E.2.1 dX1_feed_6 ?_
  refine lv_sipush (v := nI 936) E.1 E.2.1 dX1_feed_7 rfl ?_
  refine lv_icmp_le (tgt := 15) E.1 E.2.1 dX1_feed_10 (by decide) (fun c2 => ?_) (fun c2 => ?_)
  · replace hw := hw.1 (c2)
    refine hv_aload_n (r := some a0) E.1 E.2.1 dX1_feed_15 rfl (lv_at hl 0 rfl) ?_
    refine lv_lload_n E.1 E.2.1 dX1_feed_16 rfl (lv_at hl 1 rfl) ?_
    obtain ⟨⟨fs4, hrv⟩, hw⟩ := hw
    have hq := hw
    clear hw
    refine hv_callv (u := 0) (B1 := 0) hI (vx_runV (As := [.long (j1)]) (rest := []) E (met_X1_eight l htr G (d) hq) (cwV 1 E.2.2.2.2 (lw_V q171 q173 qs0 q121 q175) rfl rfl rfl hd_X1_eight (rm_ok (by omega) (by decide))) (hv_preV hK hI hrv rfl) rfl rfl hl.1 rfl (lv_room (by first | rfl | decide | (simp [va_rf_cat, int_cat, long_cat]; done) | (simp [va_rf_cat, int_cat, long_cat]; decide))) dX1_feed_17 (hv_fit (by first | exact (Nat.le_refl 0) | omega))) (fun _ _ _ _ _ h => h.elim) (fun y3 H locs hw hI => ?_)
    refine hv_aload_n (r := some a0) E.1 E.2.1 dX1_feed_20 rfl (lv_at hl 0 rfl) ?_
    refine lv_lload_n E.1 E.2.1 dX1_feed_21 rfl (lv_at hl 2 rfl) ?_
    obtain ⟨⟨fs6, hrv⟩, hw⟩ := hw
    have hq := hw
    clear hw
    refine hv_callv (u := 0) (B1 := 0) hI (vx_runV (As := [.long (j3)]) (rest := []) E (met_X1_eight l htr G (d) hq) (cwV 1 E.2.2.2.2 (lw_V q171 q173 qs0 q121 q175) rfl rfl rfl hd_X1_eight (rm_ok (by omega) (by decide))) (hv_preV hK hI hrv rfl) rfl rfl hl.1 rfl (lv_room (by first | rfl | decide | (simp [va_rf_cat, int_cat, long_cat]; done) | (simp [va_rf_cat, int_cat, long_cat]; decide))) dX1_feed_22 (hv_fit (by first | exact (Nat.le_refl 0) | omega))) (fun _ _ _ _ _ h => h.elim) (fun y5 H locs hw hI => ?_)
    refine hv_aload_n (r := some a0) E.1 E.2.1 dX1_feed_25 rfl (lv_at hl 0 rfl) ?_
    refine lv_lload E.1 E.2.1 dX1_feed_26 (lv_at hl 3 rfl) ?_
    obtain ⟨⟨fs8, hrv⟩, hw⟩ := hw
    have hq := hw
    clear hw
    refine hv_callv (u := 0) (B1 := 0) hI (vx_runV (As := [.long (j5)]) (rest := []) E (met_X1_eight l htr G (d) hq) (cwV 1 E.2.2.2.2 (lw_V q171 q173 qs0 q121 q175) rfl rfl rfl hd_X1_eight (rm_ok (by omega) (by decide))) (hv_preV hK hI hrv rfl) rfl rfl hl.1 rfl (lv_room (by first | rfl | decide | (simp [va_rf_cat, int_cat, long_cat]; done) | (simp [va_rf_cat, int_cat, long_cat]; decide))) dX1_feed_28 (hv_fit (by first | exact (Nat.le_refl 0) | omega))) (fun _ _ _ _ _ h => h.elim) (fun y7 H locs hw hI => ?_)
    refine hv_aload_n (r := some a0) E.1 E.2.1 dX1_feed_31 rfl (lv_at hl 0 rfl) ?_
    obtain ⟨f9, ⟨fs, hfs, hfk⟩, hw⟩ := hw
    refine hv_get (v := .int f9) E hK hI ciX1 1 (Nat.le_of_ble_eq_true rfl) q1421 (fun _ h => h) (Or.inl hfs) hfk dX1_feed_32 ?_
    exact hv_ireti E hr hlocks hI (Nat.le_refl 0) hw dX1_feed_35
  · replace hw := hw.2 (c2)
    refine lv_iconst (v := (-1)) E.1 E.2.1 dX1_feed_13 rfl ?_
    exact hv_ireti E hr hlocks hI (Nat.le_refl 0) hw dX1_feed_14
/-- CaseGrouper.end(I)I -/
def wp_X1_end (G : GP) (post : Int32 → HS → Prop) (y0 : HS) (a0 : Nat) (i1 : Int32) : Prop := ∃ f1, fI y0 a0 0 1 f1 ∧ wp_X1_within G (fun b3 y2 => (b3 = true → ∃ fs6, y2.1 a0 = some (ob 0 fs6) ∧ 1 < fs6.length ∧ ∀ y5, y5 = hput y2 a0 (ob 0 (fs6.set 1 (.int (i1)))) → post i1 y5) ∧ (b3 = false → post ((-1)) y2)) y0 i1 (nI 0) f1
theorem hs_X1_end : yX1_end.cls ≠ "java/lang/invoke/MethodHandle" ∧ yX1_end.cls ≠ "java/lang/invoke/VarHandle" ∧ (parseMethodDescriptor yX1_end.desc).map (fun d => d.parameters.length) = some 1 := by decide +kernel
theorem hd_X1_end : yX1_end.cls = RX1 ∧ yX1_end.cls ≠ "java/lang/invoke/MethodHandle" ∧ yX1_end.cls ≠ "java/lang/invoke/VarHandle" ∧ (parseMethodDescriptor yX1_end.desc).map (fun d => d.parameters.length) = some 1 := by decide +kernel
set_option maxHeartbeats 4000000 in
theorem met_X1_end (l : Launch) (htr : l.stackTraces = false) (G : GP) (d : Nat) {post : Int32 → HS → Prop} {y0 : HS} {a0 : Nat} {i1 : Int32} (hw : wp_X1_end G post y0 a0 i1) : vx_Met l yX1_end (ws_ yX1_end cX1_end 2 (some .int)) (rmB (d + 1) 0) (hPc G y0 [va_rf (some a0), .int (i1)]) (hQi G y0 post) (hX G y0 (fun _ _ _ => False)) 0 (20 * 0) (HA y0) := by
  unfold wp_X1_end at hw
  refine hv_met (own := RX1) (by decide) rfl (Nat.le_of_ble_eq_true rfl) ?_
  intro p e s m args below meth c ls E hr hlocks hnm hE hK hI hl
  replace hl : lv_has ls 2 [(0, va_rf (some a0)), (1, .int (i1))] := hl
  refine lv_iload_n E.1 E.2.1 dX1_end_0 rfl (lv_at hl 1 rfl) ?_
  refine lv_iconst (v := nI 0) E.1 E.2.1 dX1_end_1 rfl ?_
  refine hv_aload_n (r := some a0) E.1 E.2.1 dX1_end_2 rfl (lv_at hl 0 rfl) ?_
  obtain ⟨f1, ⟨fs, hfs, hfk⟩, hw⟩ := hw
  refine hv_get (v := .int f1) E hK hI ciX1 1 (Nat.le_of_ble_eq_true rfl) q1421 (fun _ h => h) (Or.inl hfs) hfk dX1_end_3 ?_
  have hq := hw
  clear hw
  refine hv_callz (u := 0) (B1 := 0) hI (vx_runS (As := [.int (i1), .int (nI 0), .int (f1)]) (rest := []) E (met_X1_within l G (d) hq) (va_cwS 3 E.2.2.2.2 (lw_S q180 q181 q121 q182) rfl rfl rfl hs_X1_within (rm_ok (by omega) (by decide))) (hv_preS hK hI) rfl rfl hl.1 rfl (lv_room (by first | rfl | decide | (simp [va_rf_cat, int_cat, long_cat]; done) | (simp [va_rf_cat, int_cat, long_cat]; decide))) dX1_end_6 (hv_fit (by first | exact (Nat.le_refl 0) | omega))) (fun _ _ _ _ _ h => h.elim) (fun b3 y2 H locs hw hI => ?_)
  refine lv_if_ne (tgt := 14) E.1 E.2.1 dX1_end_9 (by decide) (fun c4 => ?_) (fun c4 => ?_)
  · replace hw := hw.1 (bi_n c4)
    refine hv_aload_n (r := some a0) E.1 E.2.1 dX1_end_14 rfl (lv_at hl 0 rfl) ?_
    refine lv_iload_n E.1 E.2.1 dX1_end_15 rfl (lv_at hl 1 rfl) ?_
    obtain ⟨fs6, hfs, hln, hw⟩ := hw
    refine hv_put (v := .int (i1)) E hK hI ciX1 1 (Nat.le_of_ble_eq_true rfl) q1421 (fun _ h => h) rfl rfl rfl hfs hln dX1_end_16 (fun H locs hI => ?_)
    obtain ⟨y5, ey5⟩ : ∃ w, w = hput y2 a0 (ob 0 (fs6.set 1 (.int (i1)))) := ⟨_, rfl⟩
    rw [← ey5] at hI
    replace hw := hw y5 ey5
    refine lv_iload_n E.1 E.2.1 dX1_end_19 rfl (lv_at hl 1 rfl) ?_
    exact hv_ireti E hr hlocks hI (Nat.le_refl 0) hw dX1_end_20
  · replace hw := hw.2 (bi_z c4)
    refine lv_iconst (v := (-1)) E.1 E.2.1 dX1_end_12 rfl ?_
    exact hv_ireti E hr hlocks hI (Nat.le_refl 0) hw dX1_end_13
/-- CaseGrouper.edition()I -/
def wp_X1_edition (G : GP) (B : Nat) (post : Int32 → HS → Prop) (y0 : HS) (a0 : Nat) : Prop := ∃ f1, fI y0 a0 0 1 f1 ∧ ∃ fs3, y0.1 a0 = some (ob 0 fs3) ∧ 1 < fs3.length ∧ ∀ y2, y2 = hput y0 a0 (ob 0 (fs3.set 1 (.int (nI 0)))) → ∃ fs5, y2.1 a0 = some (ob 0 fs5) ∧ 2 < fs5.length ∧ ∀ y4, y4 = hput y2 a0 (ob 0 (fs5.set 2 (.int ((-1))))) → (f1 ≤ (nI 900) → 0 + 1 ≤ B ∧ ∀ a8, a8 = y4.2 → ∀ y7, y7 = hnew y4 (ob 4 [.int 0, va_rf none, .int 0, .int 0, va_rf none, .int 0, .int 0, .int 0, va_rf none, va_rf none]) → ∃ k10, (0 + 1) + k10 ≤ B ∧ wp_X6_init G k10 (fun y9 => (∃ fs13, rd G y9 a8 (ob 4 fs13)) ∧ ∃ k14, ((0 + 1) + k10) + k14 ≤ B ∧ wp_X6_whole G k14 (fun r12 y11 => ∃ fs16, y11.1 a0 = some (ob 0 fs16) ∧ 4 < fs16.length ∧ ∀ y15, y15 = hput y11 a0 (ob 0 (fs16.set 4 (va_rf r12))) → ∃ f17, fI y15 a8 4 7 f17 ∧ post f17 y15) (fun ec28 q18 y19 => ec28 = 15 ∧ ∃ f20, fI y19 q18 15 6 f20 ∧ ∃ fs22, y19.1 a0 = some (ob 0 fs22) ∧ 2 < fs22.length ∧ ∀ y21, y21 = hput y19 a0 (ob 0 (fs22.set 2 (.int (f20)))) → ∃ f23, fR y21 q18 15 0 f23 ∧ ¬ f23 = some q18 ∧ ∃ b24, isIn G y21 f23 6 b24 ∧ (b24 = false → post ((-1)) y21) ∧ (b24 = true → isOf G y21 f23 6 ∧ ∃ a26, f23 = some a26 ∧ ∃ f27, fI y21 a26 6 6 f27 ∧ post (((-2)) - f27) y21)) y9 a8) y7 a8 (some a0) f1) ∧ (¬ f1 ≤ (nI 900) → post ((-1)) y4)
theorem hs_X1_edition : yX1_edition.cls ≠ "java/lang/invoke/MethodHandle" ∧ yX1_edition.cls ≠ "java/lang/invoke/VarHandle" ∧ (parseMethodDescriptor yX1_edition.desc).map (fun d => d.parameters.length) = some 0 := by decide +kernel
theorem hd_X1_edition : yX1_edition.cls = RX1 ∧ yX1_edition.cls ≠ "java/lang/invoke/MethodHandle" ∧ yX1_edition.cls ≠ "java/lang/invoke/VarHandle" ∧ (parseMethodDescriptor yX1_edition.desc).map (fun d => d.parameters.length) = some 0 := by decide +kernel
set_option maxHeartbeats 4000000 in
theorem met_X1_edition (l : Launch) (htr : l.stackTraces = false) (G : GP) (d : Nat) {B : Nat} {post : Int32 → HS → Prop} {y0 : HS} {a0 : Nat} (hw : wp_X1_edition G B post y0 a0) : vx_Met l yX1_edition (wsW_ yX1_edition cX1_edition 6 (some .int) [(34, 46, 47, 55)]) (rmB (d + 290) B) (hPc G y0 [va_rf (some a0)]) (hQi G y0 post) (hX G y0 (fun _ _ _ => False)) B (20 * B) (HA y0) := by
  unfold wp_X1_edition at hw
  refine hv_metH (hh := [(34, 46, 47, 55)]) (own := RX1) (by decide) rfl (Nat.le_of_ble_eq_true rfl) ?_
  intro p e s m args below meth c ls E hr hlocks hnm hE hK hI hl
  replace hl : lv_has ls 6 [(0, va_rf (some a0))] := hl
  have hu : 0 ≤ B := Nat.zero_le _
  refine hv_aload_n (r := some a0) E.1 E.2.1 dX1_edition_0 rfl (lv_at hl 0 rfl) ?_
  obtain ⟨f1, ⟨fs, hfs, hfk⟩, hw⟩ := hw
  refine hv_get (v := .int f1) E hK hI ciX1 1 (Nat.le_of_ble_eq_true rfl) q1421 (fun _ h => h) (Or.inl hfs) hfk dX1_edition_1 ?_
  refine lv_istore_n (lv' := [(1, .int (f1)), (0, va_rf (some a0))]) E.1 E.2.1 dX1_edition_4 rfl hl (Nat.le_of_ble_eq_true rfl) (by first | rfl | decide | (simp [va_rf_cat, int_cat, long_cat]; done) | (simp [va_rf_cat, int_cat, long_cat]; decide)) (fun ls hl => ?_)
  refine hv_aload_n (r := some a0) E.1 E.2.1 dX1_edition_5 rfl (lv_at hl 1 rfl) ?_
  refine lv_iconst (v := nI 0) E.1 E.2.1 dX1_edition_6 rfl ?_
  obtain ⟨fs3, hfs, hln, hw⟩ := hw
  refine hv_put (v := .int (nI 0)) E hK hI ciX1 1 (Nat.le_of_ble_eq_true rfl) q1421 (fun _ h => h) rfl rfl rfl hfs hln dX1_edition_7 (fun H locs hI => ?_)
  obtain ⟨y2, ey2⟩ : ∃ w, w = hput y0 a0 (ob 0 (fs3.set 1 (.int (nI 0)))) := ⟨_, rfl⟩
  rw [← ey2] at hI
  replace hw := hw y2 ey2
  refine hv_aload_n (r := some a0) E.1 E.2.1 dX1_edition_10 rfl (lv_at hl 1 rfl) ?_
  refine lv_iconst (v := (-1)) E.1 E.2.1 dX1_edition_11 rfl ?_
  obtain ⟨fs5, hfs, hln, hw⟩ := hw
  refine hv_put (v := .int ((-1))) E hK hI ciX1 2 (Nat.le_of_ble_eq_true rfl) q1422 (fun _ h => h) rfl rfl rfl hfs hln dX1_edition_12 (fun H locs hI => ?_)
  obtain ⟨y4, ey4⟩ : ∃ w, w = hput y2 a0 (ob 0 (fs5.set 2 (.int ((-1))))) := ⟨_, rfl⟩
  rw [← ey4] at hI
  replace hw := hw y4 ey4
  refine lv_iload_n E.1 E.2.1 dX1_edition_15 rfl (lv_at hl 0 rfl) ?_
  refine lv_sipush (v := nI 900) E.1 E.2.1 dX1_edition_16 rfl ?_
  refine lv_icmp_le (tgt := 24) E.1 E.2.1 dX1_edition_19 (by decide) (fun c6 => ?_) (fun c6 => ?_)
  · replace hw := hw.1 (c6)
    obtain ⟨hu, hw⟩ := hw
    refine hv_new (fs := [.int 0, va_rf none, .int 0, .int 0, va_rf none, .int 0, .int 0, .int 0, va_rf none, va_rf none]) E hK hI ciX6 q188 q189 q129 (df4) (Nat.le_of_ble_eq_true rfl) hu dX1_edition_24 (fun H hI => ?_)
    obtain ⟨a8, ea8⟩ : ∃ w, w = y4.2 := ⟨_, rfl⟩
    obtain ⟨y7, ey7⟩ : ∃ w, w = hnew y4 (ob 4 [.int 0, va_rf none, .int 0, .int 0, va_rf none, .int 0, .int 0, .int 0, va_rf none, va_rf none]) := ⟨_, rfl⟩
    rw [← ea8]
    rw [← ey7] at hI
    replace hw := hw a8 ea8 y7 ey7
    refine hv_dup E.1 E.2.1 dX1_edition_27 ?_
    refine hv_aload_n (r := some a0) E.1 E.2.1 dX1_edition_28 rfl (lv_at hl 1 rfl) ?_
    refine lv_iload_n E.1 E.2.1 dX1_edition_29 rfl (lv_at hl 0 rfl) ?_
    obtain ⟨k10, hB, hw⟩ := hw
    have hq := hw
    clear hw
    refine hv_callv (u := ((0 + 1))) (B1 := k10) hI (vx_runI (b := a8) (As := [va_rf (some a0), .int (f1)]) (rest := [va_rf (some a8)]) E (met_X6_init l htr G (d + 284) hq) (cwI 2 E.2.2.2.2 (lw_meth q192) rfl rfl rfl (E.2.2.2.2 _ q129) (E.2.2.2.2 _ q190) (E.2.2.2.2 _ q191) rfl hs_X6_init (rm_ok (by omega) (by decide))) (hv_preS hK hI) rfl rfl hl.1 rfl (lv_room (by first | rfl | decide | (simp [va_rf_cat, int_cat, long_cat]; done) | (simp [va_rf_cat, int_cat, long_cat]; decide))) dX1_edition_30 (hv_fit (by first | exact hB | omega))) (fun _ _ _ _ _ h => h.elim) (fun y9 H locs hw hI => ?_)
    have hu := hB
    refine hv_astore_n (r := some a8) (lv' := [(2, va_rf (some a8)), (1, .int (f1)), (0, va_rf (some a0))]) E.1 E.2.1 dX1_edition_33 rfl hl (Nat.le_of_ble_eq_true rfl) (by first | rfl | decide | (simp [va_rf_cat, int_cat, long_cat]; done) | (simp [va_rf_cat, int_cat, long_cat]; decide)) (fun ls hl => ?_)
    refine hv_aload_n (r := some a0) E.1 E.2.1 dX1_edition_34 rfl (lv_at hl 2 rfl) ?_
    refine hv_aload_n (r := some a8) E.1 E.2.1 dX1_edition_35 rfl (lv_at hl 0 rfl) ?_
    obtain ⟨⟨fs13, hrv⟩, hw⟩ := hw
    obtain ⟨k14, hB, hw⟩ := hw
    have hq := hw
    clear hw
    refine hv_callq (u := (((0 + 1) + k10))) (B1 := k14) hI (vx_runVX (As := []) (rest := [va_rf (some a0)]) E (met_X6_whole l htr G (d) hq) (vx_cwVW 0 E.2.2.2.2 (lw_VW q309 q310 q311 q129 q312) rfl rfl rfl hd_X6_whole (rm_ok (by omega) (by decide))) (hv_preV hK hI hrv rfl) rfl rfl hl.1 rfl (lv_room (by first | rfl | decide | (simp [va_rf_cat, int_cat, long_cat]; done) | (simp [va_rf_cat, int_cat, long_cat]; decide))) dX1_edition_36 (hv_fit (by first | exact hB | omega))) (fun ec q18 y19 H locs hw hI hc => ?_) (fun r12 y11 H locs hw hI => ?_)
    · obtain ⟨rfl, hw⟩ := hw
      have hu := hB
      refine hv_catch0 (ec := 15) E hK hE (by decide) (by decide) q187 q1220 hc ?_
      refine hv_astore_n (r := some q18) (lv' := [(3, va_rf (some q18)), (2, va_rf (some a8)), (1, .int (f1)), (0, va_rf (some a0))]) E.1 E.2.1 dX1_edition_47 rfl hl (Nat.le_of_ble_eq_true rfl) (by first | rfl | decide | (simp [va_rf_cat, int_cat, long_cat]; done) | (simp [va_rf_cat, int_cat, long_cat]; decide)) (fun ls hl => ?_)
      refine hv_aload_n (r := some a0) E.1 E.2.1 dX1_edition_48 rfl (lv_at hl 3 rfl) ?_
      refine hv_aload_n (r := some q18) E.1 E.2.1 dX1_edition_49 rfl (lv_at hl 0 rfl) ?_
      obtain ⟨f20, ⟨fs, hfs, hfk⟩, hw⟩ := hw
      refine hv_getN (v := .int f20) E hK hI ciX17 6 (Nat.le_of_ble_eq_true rfl) q1232 (fun _ h => h) (Or.inl hfs) hfk dX1_edition_50 ?_
      obtain ⟨fs22, hfs, hln, hw⟩ := hw
      refine hv_put (v := .int (f20)) E hK hI ciX1 2 (Nat.le_of_ble_eq_true rfl) q1422 (fun _ h => h) rfl rfl rfl hfs hln dX1_edition_53 (fun H locs hI => ?_)
      obtain ⟨y21, ey21⟩ : ∃ w, w = hput y19 a0 (ob 0 (fs22.set 2 (.int (f20)))) := ⟨_, rfl⟩
      rw [← ey21] at hI
      replace hw := hw y21 ey21
      refine hv_aload_n (r := some q18) E.1 E.2.1 dX1_edition_56 rfl (lv_at hl 0 rfl) ?_
      obtain ⟨f23, ⟨fs, hfs, hfk⟩, hne, hw⟩ := hw
      refine hv_getCause E hK hI q1362 hfs hfk hne hl.1 (by first | rfl | decide | (simp [va_rf_cat, int_cat, long_cat]; done) | (simp [va_rf_cat, int_cat, long_cat]; decide)) dX1_edition_57 ?_
      refine hv_astore (r := f23) (lv' := [(5, va_rf f23), (3, va_rf (some q18)), (2, va_rf (some a8)), (1, .int (f1)), (0, va_rf (some a0))]) E.1 E.2.1 dX1_edition_60 hl (Nat.le_of_ble_eq_true rfl) (by first | rfl | decide | (simp [va_rf_cat, int_cat, long_cat]; done) | (simp [va_rf_cat, int_cat, long_cat]; decide)) (fun ls hl => ?_)
      refine hv_aload (r := f23) E.1 E.2.1 dX1_edition_62 (lv_at hl 0 rfl) ?_
      obtain ⟨b24, hin, hw⟩ := hw
      refine hv_inst (cn := 6) E hK hI (by decide) q1368 hin dX1_edition_64 ?_
      refine lv_if_eq (tgt := 88) E.1 E.2.1 dX1_edition_67 (by decide) (fun c25 => ?_) (fun c25 => ?_)
      · replace hw := hw.1 (bi_z c25)
        refine lv_iconst (v := (-1)) E.1 E.2.1 dX1_edition_88 rfl ?_
        exact hv_ireti E hr hlocks hI hu hw dX1_edition_89
      · replace hw := hw.2 (bi_n c25)
        refine hv_aload (r := f23) E.1 E.2.1 dX1_edition_70 (lv_at hl 0 rfl) ?_
        obtain ⟨hof, hw⟩ := hw
        refine hv_castC (cn := 6) E hK hI (by decide) q1368 hof dX1_edition_72 ?_
        refine hv_astore (r := f23) (lv' := [(4, va_rf f23), (5, va_rf f23), (3, va_rf (some q18)), (2, va_rf (some a8)), (1, .int (f1)), (0, va_rf (some a0))]) E.1 E.2.1 dX1_edition_75 hl (Nat.le_of_ble_eq_true rfl) (by first | rfl | decide | (simp [va_rf_cat, int_cat, long_cat]; done) | (simp [va_rf_cat, int_cat, long_cat]; decide)) (fun ls hl => ?_)
        refine lv_bipush (v := (-2)) E.1 E.2.1 dX1_edition_77 rfl ?_
        refine hv_aload (r := f23) E.1 E.2.1 dX1_edition_79 (lv_at hl 0 rfl) ?_
        obtain ⟨a26, ea26, hw⟩ := hw
        revert hl hw; subst ea26; intro hl hw
        obtain ⟨f27, ⟨fs, hfs, hfk⟩, hw⟩ := hw
        refine hv_getN (v := .int f27) E hK hI ciX8 6 (Nat.le_of_ble_eq_true rfl) q666 (fun _ h => h) (Or.inl hfs) hfk dX1_edition_81 ?_
        refine lv_isub E.1 E.2.1 dX1_edition_84 ?_
        refine lv_goto (tgt := 89) E.1 E.2.1 dX1_edition_85 (by decide) ?_
        exact hv_ireti E hr hlocks hI hu hw dX1_edition_89
    · skip
      have hu := hB
      obtain ⟨fs16, hfs, hln, hw⟩ := hw
      refine hv_put (v := va_rf r12) E hK hI ciX1 4 (Nat.le_of_ble_eq_true rfl) q1424 (fun _ h => h) rfl (rf_nar _ _ rfl) (rf_fit _ _ rfl) hfs hln dX1_edition_39 (fun H locs hI => ?_)
      obtain ⟨y15, ey15⟩ : ∃ w, w = hput y11 a0 (ob 0 (fs16.set 4 (va_rf r12))) := ⟨_, rfl⟩
      rw [← ey15] at hI
      replace hw := hw y15 ey15
      refine hv_aload_n (r := some a8) E.1 E.2.1 dX1_edition_42 rfl (lv_at hl 0 rfl) ?_
      obtain ⟨f17, ⟨fs, hfs, hfk⟩, hw⟩ := hw
      refine hv_getN (v := .int f17) E hK hI ciX6 7 (Nat.le_of_ble_eq_true rfl) q284 (fun _ h => h) (Or.inl hfs) hfk dX1_edition_43 ?_
      exact hv_ireti E hr hlocks hI hu hw dX1_edition_46
  · replace hw := hw.2 (c6)
    refine lv_iconst (v := (-1)) E.1 E.2.1 dX1_edition_22 rfl ?_
    exact hv_ireti E hr hlocks hI hu hw dX1_edition_23
/-- CaseGrouper.faultLine()I -/
def wp_X1_faultLine (G : GP) (post : Int32 → HS → Prop) (y0 : HS) (a0 : Nat) : Prop := ∃ f1, fI y0 a0 0 2 f1 ∧ post f1 y0
theorem hs_X1_faultLine : yX1_faultLine.cls ≠ "java/lang/invoke/MethodHandle" ∧ yX1_faultLine.cls ≠ "java/lang/invoke/VarHandle" ∧ (parseMethodDescriptor yX1_faultLine.desc).map (fun d => d.parameters.length) = some 0 := by decide +kernel
theorem hd_X1_faultLine : yX1_faultLine.cls = RX1 ∧ yX1_faultLine.cls ≠ "java/lang/invoke/MethodHandle" ∧ yX1_faultLine.cls ≠ "java/lang/invoke/VarHandle" ∧ (parseMethodDescriptor yX1_faultLine.desc).map (fun d => d.parameters.length) = some 0 := by decide +kernel
set_option maxHeartbeats 4000000 in
theorem met_X1_faultLine (l : Launch) (htr : l.stackTraces = false) (G : GP) (d : Nat) {post : Int32 → HS → Prop} {y0 : HS} {a0 : Nat} (hw : wp_X1_faultLine G post y0 a0) : vx_Met l yX1_faultLine (ws_ yX1_faultLine cX1_faultLine 1 (some .int)) (rmB (d + 0) 0) (hPc G y0 [va_rf (some a0)]) (hQi G y0 post) (hX G y0 (fun _ _ _ => False)) 0 (20 * 0) (HA y0) := by
  unfold wp_X1_faultLine at hw
  refine hv_met (own := RX1) (by decide) rfl (Nat.le_of_ble_eq_true rfl) ?_
  intro p e s m args below meth c ls E hr hlocks hnm hE hK hI hl
  replace hl : lv_has ls 1 [(0, va_rf (some a0))] := hl
  refine hv_aload_n (r := some a0) E.1 E.2.1 dX1_faultLine_0 rfl (lv_at hl 0 rfl) ?_
  obtain ⟨f1, ⟨fs, hfs, hfk⟩, hw⟩ := hw
  refine hv_get (v := .int f1) E hK hI ciX1 2 (Nat.le_of_ble_eq_true rfl) q1422 (fun _ h => h) (Or.inl hfs) hfk dX1_faultLine_1 ?_
  exact hv_ireti E hr hlocks hI (Nat.le_refl 0) hw dX1_faultLine_4
/-- CaseGrouper.<init>()V -/
def wp_X1_init (G : GP) (B : Nat) (post : HS → Prop) (y0 : HS) (a0 : Nat) : Prop := 0 + (1 + 936 / 20) ≤ B ∧ ∀ a2, a2 = y0.2 → ∀ y1, y1 = hnew y0 (ai 3 936 (fun _ => 0)) → ∃ fs4, y1.1 a0 = some (ob 0 fs4) ∧ 0 < fs4.length ∧ ∀ y3, y3 = hput y1 a0 (ob 0 (fs4.set 0 (va_rf (some a2)))) → ∃ fs6, y3.1 a0 = some (ob 0 fs6) ∧ 2 < fs6.length ∧ ∀ y5, y5 = hput y3 a0 (ob 0 (fs6.set 2 (.int ((-1))))) → (0 + (1 + 936 / 20)) + 1 ≤ B ∧ ∀ a8, a8 = y5.2 → ∀ y7, y7 = hnew y5 (ob 18 [.int 0, va_rf none, .int 0]) → wp_J2_init G (fun y9 => ∃ fs11, y9.1 a0 = some (ob 0 fs11) ∧ 3 < fs11.length ∧ ∀ y10, y10 = hput y9 a0 (ob 0 (fs11.set 3 (va_rf (some a8)))) → ((0 + (1 + 936 / 20)) + 1) + 1 ≤ B ∧ ∀ a13, a13 = y10.2 → ∀ y12, y12 = hnew y10 (ob 1 [va_rf none, va_rf none, va_rf none, va_rf none, va_rf none, va_rf none, va_rf none, .int 0, .int 0]) → ∃ k15, (((0 + (1 + 936 / 20)) + 1) + 1) + k15 ≤ B ∧ wp_X2_init G k15 (fun y14 => ∃ fs17, y14.1 a0 = some (ob 0 fs17) ∧ 4 < fs17.length ∧ ∀ y16, y16 = hput y14 a0 (ob 0 (fs17.set 4 (va_rf (some a13)))) → ((((0 + (1 + 936 / 20)) + 1) + 1) + k15) + 1 ≤ B ∧ ∀ a19, a19 = y16.2 → ∀ y18, y18 = hnew y16 (ob 2 [va_rf none, va_rf none, .int 0, .int 0, .int 0, va_rf none, .int 0, .long 0]) → wp_X4_init G (fun y20 => ∃ fs22, y20.1 a0 = some (ob 0 fs22) ∧ 6 < fs22.length ∧ ∀ y21, y21 = hput y20 a0 (ob 0 (fs22.set 6 (va_rf (some a19)))) → (((((0 + (1 + 936 / 20)) + 1) + 1) + k15) + 1) + 1 ≤ B ∧ ∀ a24, a24 = y21.2 → ∀ y23, y23 = hnew y21 (ob 2 [va_rf none, va_rf none, .int 0, .int 0, .int 0, va_rf none, .int 0, .long 0]) → wp_X4_init G (fun y25 => ∃ fs27, y25.1 a0 = some (ob 0 fs27) ∧ 7 < fs27.length ∧ ∀ y26, y26 = hput y25 a0 (ob 0 (fs27.set 7 (va_rf (some a24)))) → post y26) y23 a24) y18 a19) y12 a13) y7 a8
theorem hs_X1_init : yX1_init.cls ≠ "java/lang/invoke/MethodHandle" ∧ yX1_init.cls ≠ "java/lang/invoke/VarHandle" ∧ (parseMethodDescriptor yX1_init.desc).map (fun d => d.parameters.length) = some 0 := by decide +kernel
set_option maxHeartbeats 4000000 in
theorem met_X1_init (l : Launch) (htr : l.stackTraces = false) (G : GP) (d : Nat) {B : Nat} {post : HS → Prop} {y0 : HS} {a0 : Nat} (hw : wp_X1_init G B post y0 a0) : vx_Met l yX1_init (ws_ yX1_init cX1_init 1 none) (rmB (d + 5) B) (hPc G y0 [va_rf (some a0)]) (hQv G y0 post) (hX G y0 (fun _ _ _ => False)) B (20 * B) (HA y0) := by
  unfold wp_X1_init at hw
  refine hv_met (own := RX1) (by decide) rfl (Nat.le_of_ble_eq_true rfl) ?_
  intro p e s m args below meth c ls E hr hlocks hnm hE hK hI hl
  replace hl : lv_has ls 1 [(0, va_rf (some a0))] := hl
  have hu : 0 ≤ B := Nat.zero_le _
  refine hv_aload_n (r := some a0) E.1 E.2.1 dX1_init_0 rfl (lv_at hl 0 rfl) ?_
  refine hv_objInit (r := some a0) E q1378 hl.1 rfl (by first | rfl | decide | (simp [va_rf_cat, int_cat, long_cat]; done) | (simp [va_rf_cat, int_cat, long_cat]; decide)) dX1_init_1 ?_
  refine hv_aload_n (r := some a0) E.1 E.2.1 dX1_init_4 rfl (lv_at hl 0 rfl) ?_
  refine lv_sipush (v := nI 936) E.1 E.2.1 dX1_init_5 rfl ?_
  obtain ⟨hu, hw⟩ := hw
  refine hv_newa (N := 936) (t := 3) (ty := .byte) (atype := .byte) E hK hI rfl rfl q366 rfl rfl rfl (by decide) (by decide) hu dX1_init_8 (fun H hI => ?_)
  obtain ⟨a2, ea2⟩ : ∃ w, w = y0.2 := ⟨_, rfl⟩
  obtain ⟨y1, ey1⟩ : ∃ w, w = hnew y0 (ai 3 936 (fun _ => 0)) := ⟨_, rfl⟩
  rw [← ea2]
  rw [← ey1] at hI
  replace hw := hw a2 ea2 y1 ey1
  obtain ⟨fs4, hfs, hln, hw⟩ := hw
  refine hv_putF (v := va_rf (some a2)) E hK hI ciX1 0 (Nat.le_of_ble_eq_true rfl) q1420 (fun _ h => h) rfl hnm rfl (rf_nar _ _ rfl) (rf_fit _ _ rfl) hfs hln dX1_init_10 (fun H locs hI => ?_)
  obtain ⟨y3, ey3⟩ : ∃ w, w = hput y1 a0 (ob 0 (fs4.set 0 (va_rf (some a2)))) := ⟨_, rfl⟩
  rw [← ey3] at hI
  replace hw := hw y3 ey3
  refine hv_aload_n (r := some a0) E.1 E.2.1 dX1_init_13 rfl (lv_at hl 0 rfl) ?_
  refine lv_iconst (v := (-1)) E.1 E.2.1 dX1_init_14 rfl ?_
  obtain ⟨fs6, hfs, hln, hw⟩ := hw
  refine hv_put (v := .int ((-1))) E hK hI ciX1 2 (Nat.le_of_ble_eq_true rfl) q1422 (fun _ h => h) rfl rfl rfl hfs hln dX1_init_15 (fun H locs hI => ?_)
  obtain ⟨y5, ey5⟩ : ∃ w, w = hput y3 a0 (ob 0 (fs6.set 2 (.int ((-1))))) := ⟨_, rfl⟩
  rw [← ey5] at hI
  replace hw := hw y5 ey5
  refine hv_aload_n (r := some a0) E.1 E.2.1 dX1_init_18 rfl (lv_at hl 0 rfl) ?_
  obtain ⟨hu, hw⟩ := hw
  refine hv_new (fs := [.int 0, va_rf none, .int 0]) E hK hI ciJ2 q1379 q203 q124 (df18) (Nat.le_of_ble_eq_true rfl) hu dX1_init_19 (fun H hI => ?_)
  obtain ⟨a8, ea8⟩ : ∃ w, w = y5.2 := ⟨_, rfl⟩
  obtain ⟨y7, ey7⟩ : ∃ w, w = hnew y5 (ob 18 [.int 0, va_rf none, .int 0]) := ⟨_, rfl⟩
  rw [← ea8]
  rw [← ey7] at hI
  replace hw := hw a8 ea8 y7 ey7
  refine hv_dup E.1 E.2.1 dX1_init_22 ?_
  have hq := hw
  clear hw
  refine hv_callv (u := (((0 + (1 + 936 / 20)) + 1))) (B1 := 0) hI (vx_runI (b := a8) (As := []) (rest := [va_rf (some a8), va_rf (some a0)]) E (met_J2_init l G (d + 1) hq) (cwI 0 E.2.2.2.2 (lw_meth q206) rfl rfl rfl (E.2.2.2.2 _ q124) (E.2.2.2.2 _ q1380) (E.2.2.2.2 _ q205) rfl hs_J2_init (rm_ok (by omega) (by decide))) (hv_preS hK hI) rfl rfl hl.1 rfl (lv_room (by first | rfl | decide | (simp [va_rf_cat, int_cat, long_cat]; done) | (simp [va_rf_cat, int_cat, long_cat]; decide))) dX1_init_23 (hv_fit (by first | exact hu | omega))) (fun _ _ _ _ _ h => h.elim) (fun y9 H locs hw hI => ?_)
  obtain ⟨fs11, hfs, hln, hw⟩ := hw
  refine hv_putF (v := va_rf (some a8)) E hK hI ciX1 3 (Nat.le_of_ble_eq_true rfl) q1423 (fun _ h => h) rfl hnm rfl (rf_nar _ _ rfl) (rf_fit _ _ rfl) hfs hln dX1_init_26 (fun H locs hI => ?_)
  obtain ⟨y10, ey10⟩ : ∃ w, w = hput y9 a0 (ob 0 (fs11.set 3 (va_rf (some a8)))) := ⟨_, rfl⟩
  rw [← ey10] at hI
  replace hw := hw y10 ey10
  refine hv_aload_n (r := some a0) E.1 E.2.1 dX1_init_29 rfl (lv_at hl 0 rfl) ?_
  obtain ⟨hu, hw⟩ := hw
  refine hv_new (fs := [va_rf none, va_rf none, va_rf none, va_rf none, va_rf none, va_rf none, va_rf none, .int 0, .int 0]) E hK hI ciX2 q1381 q197 q125 (df1) (Nat.le_of_ble_eq_true rfl) hu dX1_init_30 (fun H hI => ?_)
  obtain ⟨a13, ea13⟩ : ∃ w, w = y10.2 := ⟨_, rfl⟩
  obtain ⟨y12, ey12⟩ : ∃ w, w = hnew y10 (ob 1 [va_rf none, va_rf none, va_rf none, va_rf none, va_rf none, va_rf none, va_rf none, .int 0, .int 0]) := ⟨_, rfl⟩
  rw [← ea13]
  rw [← ey12] at hI
  replace hw := hw a13 ea13 y12 ey12
  refine hv_dup E.1 E.2.1 dX1_init_33 ?_
  obtain ⟨k15, hB, hw⟩ := hw
  have hq := hw
  clear hw
  refine hv_callv (u := ((((0 + (1 + 936 / 20)) + 1) + 1))) (B1 := k15) hI (vx_runIN (R := rmB (d + 5) B) (b := a13) (As := []) (rest := [va_rf (some a13), va_rf (some a0)]) E (met_X2_init l G (d) hq) ⟨va_cnB 0 E.2.2.2.2 (lw_meth q200) rfl rfl rfl (hK.2.2.2.2.1 _ q1382 rfl) (E.2.2.2.2 _ q125) hs_X2_init (rm_ok (by omega) (by decide)), rfl, E.2.2.2.2 _ q199⟩ (hv_preS hK hI) rfl rfl hl.1 rfl (lv_room (by first | rfl | decide | (simp [va_rf_cat, int_cat, long_cat]; done) | (simp [va_rf_cat, int_cat, long_cat]; decide))) dX1_init_34 (hv_fit (by first | exact hB | omega))) (fun _ _ _ _ _ h => h.elim) (fun y14 H locs hw hI => ?_)
  have hu := hB
  obtain ⟨fs17, hfs, hln, hw⟩ := hw
  refine hv_put (v := va_rf (some a13)) E hK hI ciX1 4 (Nat.le_of_ble_eq_true rfl) q1424 (fun _ h => h) rfl (rf_nar _ _ rfl) (rf_fit _ _ rfl) hfs hln dX1_init_37 (fun H locs hI => ?_)
  obtain ⟨y16, ey16⟩ : ∃ w, w = hput y14 a0 (ob 0 (fs17.set 4 (va_rf (some a13)))) := ⟨_, rfl⟩
  rw [← ey16] at hI
  replace hw := hw y16 ey16
  refine hv_aload_n (r := some a0) E.1 E.2.1 dX1_init_40 rfl (lv_at hl 0 rfl) ?_
  obtain ⟨hu, hw⟩ := hw
  refine hv_new (fs := [va_rf none, va_rf none, .int 0, .int 0, .int 0, va_rf none, .int 0, .long 0]) E hK hI ciX4 q1383 q1326 q127 (df2) (Nat.le_of_ble_eq_true rfl) hu dX1_init_41 (fun H hI => ?_)
  obtain ⟨a19, ea19⟩ : ∃ w, w = y16.2 := ⟨_, rfl⟩
  obtain ⟨y18, ey18⟩ : ∃ w, w = hnew y16 (ob 2 [va_rf none, va_rf none, .int 0, .int 0, .int 0, va_rf none, .int 0, .long 0]) := ⟨_, rfl⟩
  rw [← ea19]
  rw [← ey18] at hI
  replace hw := hw a19 ea19 y18 ey18
  refine hv_dup E.1 E.2.1 dX1_init_44 ?_
  have hq := hw
  clear hw
  refine hv_callv (u := ((((((0 + (1 + 936 / 20)) + 1) + 1) + k15) + 1))) (B1 := 0) hI (vx_runIN (R := rmB (d + 5) B) (b := a19) (As := []) (rest := [va_rf (some a19), va_rf (some a0)]) E (met_X4_init l G (d + 2) hq) ⟨va_cnB 0 E.2.2.2.2 (lw_meth q1386) rfl rfl rfl (hK.2.2.2.2.1 _ q1384 rfl) (E.2.2.2.2 _ q127) hs_X4_init (rm_ok (by omega) (by decide)), rfl, E.2.2.2.2 _ q1385⟩ (hv_preS hK hI) rfl rfl hl.1 rfl (lv_room (by first | rfl | decide | (simp [va_rf_cat, int_cat, long_cat]; done) | (simp [va_rf_cat, int_cat, long_cat]; decide))) dX1_init_45 (hv_fit (by first | exact hu | omega))) (fun _ _ _ _ _ h => h.elim) (fun y20 H locs hw hI => ?_)
  obtain ⟨fs22, hfs, hln, hw⟩ := hw
  refine hv_putF (v := va_rf (some a19)) E hK hI ciX1 6 (Nat.le_of_ble_eq_true rfl) q1426 (fun _ h => h) rfl hnm rfl (rf_nar _ _ rfl) (rf_fit _ _ rfl) hfs hln dX1_init_48 (fun H locs hI => ?_)
  obtain ⟨y21, ey21⟩ : ∃ w, w = hput y20 a0 (ob 0 (fs22.set 6 (va_rf (some a19)))) := ⟨_, rfl⟩
  rw [← ey21] at hI
  replace hw := hw y21 ey21
  refine hv_aload_n (r := some a0) E.1 E.2.1 dX1_init_51 rfl (lv_at hl 0 rfl) ?_
  obtain ⟨hu, hw⟩ := hw
  refine hv_new (fs := [va_rf none, va_rf none, .int 0, .int 0, .int 0, va_rf none, .int 0, .long 0]) E hK hI ciX4 q1383 q1326 q127 (df2) (Nat.le_of_ble_eq_true rfl) hu dX1_init_52 (fun H hI => ?_)
  obtain ⟨a24, ea24⟩ : ∃ w, w = y21.2 := ⟨_, rfl⟩
  obtain ⟨y23, ey23⟩ : ∃ w, w = hnew y21 (ob 2 [va_rf none, va_rf none, .int 0, .int 0, .int 0, va_rf none, .int 0, .long 0]) := ⟨_, rfl⟩
  rw [← ea24]
  rw [← ey23] at hI
  replace hw := hw a24 ea24 y23 ey23
  refine hv_dup E.1 E.2.1 dX1_init_55 ?_
  have hq := hw
  clear hw
  refine hv_callv (u := (((((((0 + (1 + 936 / 20)) + 1) + 1) + k15) + 1) + 1))) (B1 := 0) hI (vx_runIN (R := rmB (d + 5) B) (b := a24) (As := []) (rest := [va_rf (some a24), va_rf (some a0)]) E (met_X4_init l G (d + 2) hq) ⟨va_cnB 0 E.2.2.2.2 (lw_meth q1386) rfl rfl rfl (hK.2.2.2.2.1 _ q1384 rfl) (E.2.2.2.2 _ q127) hs_X4_init (rm_ok (by omega) (by decide)), rfl, E.2.2.2.2 _ q1385⟩ (hv_preS hK hI) rfl rfl hl.1 rfl (lv_room (by first | rfl | decide | (simp [va_rf_cat, int_cat, long_cat]; done) | (simp [va_rf_cat, int_cat, long_cat]; decide))) dX1_init_56 (hv_fit (by first | exact hu | omega))) (fun _ _ _ _ _ h => h.elim) (fun y25 H locs hw hI => ?_)
  obtain ⟨fs27, hfs, hln, hw⟩ := hw
  refine hv_putF (v := va_rf (some a24)) E hK hI ciX1 7 (Nat.le_of_ble_eq_true rfl) q1427 (fun _ h => h) rfl hnm rfl (rf_nar _ _ rfl) (rf_fit _ _ rfl) hfs hln dX1_init_59 (fun H locs hI => ?_)
  obtain ⟨y26, ey26⟩ : ∃ w, w = hput y25 a0 (ob 0 (fs27.set 7 (va_rf (some a24)))) := ⟨_, rfl⟩
  rw [← ey26] at hI
  replace hw := hw y26 ey26
  exact hv_vret E hr hlocks hI hu hw dX1_init_62
/-- CaseGrouper.isSo(II)Z -/
def wp_X1_isSo (G : GP) (post : Bool → HS → Prop) (y0 : HS) (i0 : Int32) (i1 : Int32) : Prop := (i0 = nI 0 → wp_X1_isDiagnosis G (fun b3 y2 => post b3 y2) y0 i1) ∧ (¬ i0 = nI 0 → (i0 = nI 1 → wp_X1_within G (fun b6 y5 => post b6 y5) y0 i1 (nI 0) (nI 120)) ∧ (¬ i0 = nI 1 → (i0 = nI 2 → wp_X1_within G (fun b9 y8 => post b9 y8) y0 i1 (nI 1) (nI 400)) ∧ (¬ i0 = nI 2 → post false y0)))
theorem hs_X1_isSo : yX1_isSo.cls ≠ "java/lang/invoke/MethodHandle" ∧ yX1_isSo.cls ≠ "java/lang/invoke/VarHandle" ∧ (parseMethodDescriptor yX1_isSo.desc).map (fun d => d.parameters.length) = some 2 := by decide +kernel
set_option maxHeartbeats 4000000 in
theorem met_X1_isSo (l : Launch) (htr : l.stackTraces = false) (G : GP) (d : Nat) {post : Bool → HS → Prop} {y0 : HS} {i0 : Int32} {i1 : Int32} (hw : wp_X1_isSo G post y0 i0 i1) : vx_Met l yX1_isSo (ws_ yX1_isSo cX1_isSo 2 (some .boolean)) (rmB (d + 2) 0) (hPc G y0 [.int (i0), .int (i1)]) (hQz G y0 post) (hX G y0 (fun _ _ _ => False)) 0 (20 * 0) (HA y0) := by
  unfold wp_X1_isSo at hw
  refine hv_met (own := RX1) (by decide) rfl (Nat.le_of_ble_eq_true rfl) ?_
  intro p e s m args below meth c ls E hr hlocks hnm hE hK hI hl
  replace hl : lv_has ls 2 [(0, .int (i0)), (1, .int (i1))] := hl
  refine lv_iload_n E.1 E.2.1 dX1_isSo_0 rfl (lv_at hl 0 rfl) ?_
  by_cases c1 : i0 = nI 0
  · replace hw := hw.1 c1
    have hti : i0.toInt = 0 := by rw [c1]; decide
    refine lv_tableIn (tgt := 28) (off := 27) E.1 E.2.1 dX1_isSo_1 (by rw [hti]; decide) (by rw [hti]; decide) (by rw [hti]; rfl) (by decide) ?_
    refine lv_iload_n E.1 E.2.1 dX1_isSo_28 rfl (lv_at hl 1 rfl) ?_
    have hq := hw
    clear hw
    refine hv_callz (u := 0) (B1 := 0) hI (vx_runS (As := [.int (i1)]) (rest := []) E (met_X1_isDiagnosis l G (d) hq) (va_cwS 1 E.2.2.2.2 (lw_S q1452 q979 q121 q980) rfl rfl rfl hs_X1_isDiagnosis (rm_ok (by omega) (by decide))) (hv_preS hK hI) rfl rfl hl.1 rfl (lv_room (by first | rfl | decide | (simp [va_rf_cat, int_cat, long_cat]; done) | (simp [va_rf_cat, int_cat, long_cat]; decide))) dX1_isSo_29 (hv_fit (by first | exact (Nat.le_refl 0) | omega))) (fun _ _ _ _ _ h => h.elim) (fun b3 y2 H locs hw hI => ?_)
    exact hv_iretz (b := b3) E hr hlocks hI (Nat.le_refl 0) rfl hw dX1_isSo_32
  replace hw := hw.2 c1
  by_cases c4 : i0 = nI 1
  · replace hw := hw.1 c4
    have hti : i0.toInt = 1 := by rw [c4]; decide
    refine lv_tableIn (tgt := 33) (off := 32) E.1 E.2.1 dX1_isSo_1 (by rw [hti]; decide) (by rw [hti]; decide) (by rw [hti]; rfl) (by decide) ?_
    refine lv_iload_n E.1 E.2.1 dX1_isSo_33 rfl (lv_at hl 1 rfl) ?_
    refine lv_iconst (v := nI 0) E.1 E.2.1 dX1_isSo_34 rfl ?_
    refine lv_bipush (v := nI 120) E.1 E.2.1 dX1_isSo_35 rfl ?_
    have hq := hw
    clear hw
    refine hv_callz (u := 0) (B1 := 0) hI (vx_runS (As := [.int (i1), .int (nI 0), .int (nI 120)]) (rest := []) E (met_X1_within l G (d + 1) hq) (va_cwS 3 E.2.2.2.2 (lw_S q180 q181 q121 q182) rfl rfl rfl hs_X1_within (rm_ok (by omega) (by decide))) (hv_preS hK hI) rfl rfl hl.1 rfl (lv_room (by first | rfl | decide | (simp [va_rf_cat, int_cat, long_cat]; done) | (simp [va_rf_cat, int_cat, long_cat]; decide))) dX1_isSo_37 (hv_fit (by first | exact (Nat.le_refl 0) | omega))) (fun _ _ _ _ _ h => h.elim) (fun b6 y5 H locs hw hI => ?_)
    exact hv_iretz (b := b6) E hr hlocks hI (Nat.le_refl 0) rfl hw dX1_isSo_40
  replace hw := hw.2 c4
  by_cases c7 : i0 = nI 2
  · replace hw := hw.1 c7
    have hti : i0.toInt = 2 := by rw [c7]; decide
    refine lv_tableIn (tgt := 41) (off := 40) E.1 E.2.1 dX1_isSo_1 (by rw [hti]; decide) (by rw [hti]; decide) (by rw [hti]; rfl) (by decide) ?_
    refine lv_iload_n E.1 E.2.1 dX1_isSo_41 rfl (lv_at hl 1 rfl) ?_
    refine lv_iconst (v := nI 1) E.1 E.2.1 dX1_isSo_42 rfl ?_
    refine lv_sipush (v := nI 400) E.1 E.2.1 dX1_isSo_43 rfl ?_
    have hq := hw
    clear hw
    refine hv_callz (u := 0) (B1 := 0) hI (vx_runS (As := [.int (i1), .int (nI 1), .int (nI 400)]) (rest := []) E (met_X1_within l G (d + 1) hq) (va_cwS 3 E.2.2.2.2 (lw_S q180 q181 q121 q182) rfl rfl rfl hs_X1_within (rm_ok (by omega) (by decide))) (hv_preS hK hI) rfl rfl hl.1 rfl (lv_room (by first | rfl | decide | (simp [va_rf_cat, int_cat, long_cat]; done) | (simp [va_rf_cat, int_cat, long_cat]; decide))) dX1_isSo_46 (hv_fit (by first | exact (Nat.le_refl 0) | omega))) (fun _ _ _ _ _ h => h.elim) (fun b9 y8 H locs hw hI => ?_)
    exact hv_iretz (b := b9) E hr hlocks hI (Nat.le_refl 0) rfl hw dX1_isSo_49
  replace hw := hw.2 c7
  refine lv_tableOut (tgt := 50) E.1 E.2.1 dX1_isSo_1 (tab_out (fun j h1 h2 h3 => ?_)) (by decide) ?_
  · have hj : j = 0 ∨ j = 1 ∨ j = 2 := by omega
    rcases hj with rfl | rfl | rfl
    · exact c1 (Int32.toInt_inj.mp (by rw [h3]; decide))
    · exact c4 (Int32.toInt_inj.mp (by rw [h3]; decide))
    · exact c7 (Int32.toInt_inj.mp (by rw [h3]; decide))
  · skip
    refine lv_iconst (v := nI 0) E.1 E.2.1 dX1_isSo_50 rfl ?_
    exact hv_iretz (b := false) E hr hlocks hI (Nat.le_refl 0) rfl hw dX1_isSo_51
/-- CaseGrouper.stay(III)I -/
def wp_X1_stay (G : GP) (B : Nat) (post : Int32 → HS → Prop) (y0 : HS) (a0 : Nat) (i1 : Int32) (i2 : Int32) (i3 : Int32) : Prop := wp_X1_isSo G (fun b2 y1 => (b2 = false → post ((-1)) y1) ∧ (b2 = true → wp_X1_isSo G (fun b5 y4 => (b5 = false → post ((-1)) y4) ∧ (b5 = true → wp_X1_isSo G (fun b8 y7 => (b8 = false → post ((-1)) y7) ∧ (b8 = true → ∃ f10, fR y7 a0 0 3 f10 ∧ ∃ a11, f10 = some a11 ∧ (∃ fs14, rd G y7 a11 (ob 18 fs14)) ∧ wp_J2_size G (fun x13 y12 => (¬ x13 = (nI 24) → 0 + 1 ≤ B ∧ ∀ a17, a17 = y12.2 → ∀ y16, y16 = hnew y12 (ob 17 [.int 0, .int 0, .int 0, va_rf none, va_rf none]) → ∃ k19, (0 + 1) + k19 ≤ B ∧ wp_X19_init G k19 (fun y18 => ∃ fs21, y18.1 a17 = some (ob 17 fs21) ∧ 0 < fs21.length ∧ ∀ y20, y20 = hput y18 a17 (ob 17 (fs21.set 0 (.int (i1)))) → ∃ fs23, y20.1 a17 = some (ob 17 fs23) ∧ 1 < fs23.length ∧ ∀ y22, y22 = hput y20 a17 (ob 17 (fs23.set 1 (.int (i2)))) → ∃ fs25, y22.1 a17 = some (ob 17 fs25) ∧ 2 < fs25.length ∧ ∀ y24, y24 = hput y22 a17 (ob 17 (fs25.set 2 (.int (i3)))) → ∃ f26, fR y24 a0 0 3 f26 ∧ ∃ a27, f26 = some a27 ∧ (∃ fs30, rd G y24 a27 (ob 18 fs30)) ∧ ∃ k31, ((0 + 1) + k19) + k31 ≤ B ∧ wp_J2_add G k31 (fun b29 y28 => ∃ f32, fR y28 a0 0 3 f32 ∧ ∃ a33, f32 = some a33 ∧ (∃ fs36, rd G y28 a33 (ob 18 fs36)) ∧ wp_J2_size G (fun x35 y34 => post (x35 - (nI 1)) y34) y28 a33) y24 a27 (some a17)) y16 a17) ∧ (x13 = (nI 24) → post ((-1)) y12)) y7 a11)) y4 (nI 2) i3)) y1 (nI 1) i2)) y0 (nI 0) i1
theorem hs_X1_stay : yX1_stay.cls ≠ "java/lang/invoke/MethodHandle" ∧ yX1_stay.cls ≠ "java/lang/invoke/VarHandle" ∧ (parseMethodDescriptor yX1_stay.desc).map (fun d => d.parameters.length) = some 3 := by decide +kernel
theorem hd_X1_stay : yX1_stay.cls = RX1 ∧ yX1_stay.cls ≠ "java/lang/invoke/MethodHandle" ∧ yX1_stay.cls ≠ "java/lang/invoke/VarHandle" ∧ (parseMethodDescriptor yX1_stay.desc).map (fun d => d.parameters.length) = some 3 := by decide +kernel
set_option maxHeartbeats 4000000 in
theorem met_X1_stay (l : Launch) (htr : l.stackTraces = false) (G : GP) (d : Nat) {B : Nat} {post : Int32 → HS → Prop} {y0 : HS} {a0 : Nat} {i1 : Int32} {i2 : Int32} {i3 : Int32} (hw : wp_X1_stay G B post y0 a0 i1 i2 i3) : vx_Met l yX1_stay (ws_ yX1_stay cX1_stay 5 (some .int)) (rmB (d + 7) B) (hPc G y0 [va_rf (some a0), .int (i1), .int (i2), .int (i3)]) (hQi G y0 post) (hX G y0 (fun _ _ _ => False)) B (20 * B) (HA y0) := by
  unfold wp_X1_stay at hw
  refine hv_met (own := RX1) (by decide) rfl (Nat.le_of_ble_eq_true rfl) ?_
  intro p e s m args below meth c ls E hr hlocks hnm hE hK hI hl
  replace hl : lv_has ls 5 [(0, va_rf (some a0)), (1, .int (i1)), (2, .int (i2)), (3, .int (i3))] := hl
  have hu : 0 ≤ B := Nat.zero_le _
  refine lv_iconst (v := nI 0) E.1 E.2.1 dX1_stay_0 rfl ?_
  refine lv_iload_n E.1 E.2.1 dX1_stay_1 rfl (lv_at hl 1 rfl) ?_
  have hq := hw
  clear hw
  refine hv_callz (u := 0) (B1 := 0) hI (vx_runS (As := [.int (nI 0), .int (i1)]) (rest := []) E (met_X1_isSo l htr G (d + 4) hq) (va_cwS 2 E.2.2.2.2 (lw_S q1449 q1450 q121 q1451) rfl rfl rfl hs_X1_isSo (rm_ok (by omega) (by decide))) (hv_preS hK hI) rfl rfl hl.1 rfl (lv_room (by first | rfl | decide | (simp [va_rf_cat, int_cat, long_cat]; done) | (simp [va_rf_cat, int_cat, long_cat]; decide))) dX1_stay_2 (hv_fit (by first | exact hu | omega))) (fun _ _ _ _ _ h => h.elim) (fun b2 y1 H locs hw hI => ?_)
  refine lv_if_eq (tgt := 36) E.1 E.2.1 dX1_stay_5 (by decide) (fun c3 => ?_) (fun c3 => ?_)
  · replace hw := hw.1 (bi_z c3)
    refine lv_iconst (v := (-1)) E.1 E.2.1 dX1_stay_36 rfl ?_
    exact hv_ireti E hr hlocks hI hu hw dX1_stay_37
  · replace hw := hw.2 (bi_n c3)
    refine lv_iconst (v := nI 1) E.1 E.2.1 dX1_stay_8 rfl ?_
    refine lv_iload_n E.1 E.2.1 dX1_stay_9 rfl (lv_at hl 2 rfl) ?_
    have hq := hw
    clear hw
    refine hv_callz (u := 0) (B1 := 0) hI (vx_runS (As := [.int (nI 1), .int (i2)]) (rest := []) E (met_X1_isSo l htr G (d + 4) hq) (va_cwS 2 E.2.2.2.2 (lw_S q1449 q1450 q121 q1451) rfl rfl rfl hs_X1_isSo (rm_ok (by omega) (by decide))) (hv_preS hK hI) rfl rfl hl.1 rfl (lv_room (by first | rfl | decide | (simp [va_rf_cat, int_cat, long_cat]; done) | (simp [va_rf_cat, int_cat, long_cat]; decide))) dX1_stay_10 (hv_fit (by first | exact hu | omega))) (fun _ _ _ _ _ h => h.elim) (fun b5 y4 H locs hw hI => ?_)
    refine lv_if_eq (tgt := 36) E.1 E.2.1 dX1_stay_13 (by decide) (fun c6 => ?_) (fun c6 => ?_)
    · replace hw := hw.1 (bi_z c6)
      refine lv_iconst (v := (-1)) E.1 E.2.1 dX1_stay_36 rfl ?_
      exact hv_ireti E hr hlocks hI hu hw dX1_stay_37
    · replace hw := hw.2 (bi_n c6)
      refine lv_iconst (v := nI 2) E.1 E.2.1 dX1_stay_16 rfl ?_
      refine lv_iload_n E.1 E.2.1 dX1_stay_17 rfl (lv_at hl 3 rfl) ?_
      have hq := hw
      clear hw
      refine hv_callz (u := 0) (B1 := 0) hI (vx_runS (As := [.int (nI 2), .int (i3)]) (rest := []) E (met_X1_isSo l htr G (d + 4) hq) (va_cwS 2 E.2.2.2.2 (lw_S q1449 q1450 q121 q1451) rfl rfl rfl hs_X1_isSo (rm_ok (by omega) (by decide))) (hv_preS hK hI) rfl rfl hl.1 rfl (lv_room (by first | rfl | decide | (simp [va_rf_cat, int_cat, long_cat]; done) | (simp [va_rf_cat, int_cat, long_cat]; decide))) dX1_stay_18 (hv_fit (by first | exact hu | omega))) (fun _ _ _ _ _ h => h.elim) (fun b8 y7 H locs hw hI => ?_)
      refine lv_if_eq (tgt := 36) E.1 E.2.1 dX1_stay_21 (by decide) (fun c9 => ?_) (fun c9 => ?_)
      · replace hw := hw.1 (bi_z c9)
        refine lv_iconst (v := (-1)) E.1 E.2.1 dX1_stay_36 rfl ?_
        exact hv_ireti E hr hlocks hI hu hw dX1_stay_37
      · replace hw := hw.2 (bi_n c9)
        refine hv_aload_n (r := some a0) E.1 E.2.1 dX1_stay_24 rfl (lv_at hl 0 rfl) ?_
        obtain ⟨f10, ⟨fs, hfs, hfk⟩, hw⟩ := hw
        refine hv_get (v := va_rf f10) E hK hI ciX1 3 (Nat.le_of_ble_eq_true rfl) q1423 (fun _ h => h) (Or.inl hfs) hfk dX1_stay_25 ?_
        obtain ⟨a11, ea11, hw⟩ := hw
        revert hl hw; subst ea11; intro hl hw
        obtain ⟨⟨fs14, hrv⟩, hw⟩ := hw
        have hq := hw
        clear hw
        refine hv_calli (u := 0) (B1 := 0) hI (vx_runV (As := []) (rest := []) E (met_J2_size l G (d + 6) hq) (cwV 0 E.2.2.2.2 (lw_V q1453 q752 q753 q124 q754) rfl rfl rfl hd_J2_size (rm_ok (by omega) (by decide))) (hv_preV hK hI hrv rfl) rfl rfl hl.1 rfl (lv_room (by first | rfl | decide | (simp [va_rf_cat, int_cat, long_cat]; done) | (simp [va_rf_cat, int_cat, long_cat]; decide))) dX1_stay_28 (hv_fit (by first | exact hu | omega))) (fun _ _ _ _ _ h => h.elim) (fun x13 y12 H locs hw hI => ?_)
        refine lv_bipush (v := nI 24) E.1 E.2.1 dX1_stay_31 rfl ?_
        refine lv_icmp_ne (tgt := 38) E.1 E.2.1 dX1_stay_33 (by decide) (fun c15 => ?_) (fun c15 => ?_)
        · replace hw := hw.1 (c15)
          obtain ⟨hu, hw⟩ := hw
          refine hv_new (fs := [.int 0, .int 0, .int 0, va_rf none, va_rf none]) E hK hI ciX19 q1454 q1455 q163 (df17) (Nat.le_of_ble_eq_true rfl) hu dX1_stay_38 (fun H hI => ?_)
          obtain ⟨a17, ea17⟩ : ∃ w, w = y12.2 := ⟨_, rfl⟩
          obtain ⟨y16, ey16⟩ : ∃ w, w = hnew y12 (ob 17 [.int 0, .int 0, .int 0, va_rf none, va_rf none]) := ⟨_, rfl⟩
          rw [← ea17]
          rw [← ey16] at hI
          replace hw := hw a17 ea17 y16 ey16
          refine hv_dup E.1 E.2.1 dX1_stay_41 ?_
          obtain ⟨k19, hB, hw⟩ := hw
          have hq := hw
          clear hw
          refine hv_callv (u := ((0 + 1))) (B1 := k19) hI (vx_runIN (R := rmB (d + 7) B) (b := a17) (As := []) (rest := [va_rf (some a17)]) E (met_X19_init l G (d + 2) hq) ⟨va_cnB 0 E.2.2.2.2 (lw_meth q1458) rfl rfl rfl (hK.2.2.2.2.1 _ q1456 rfl) (E.2.2.2.2 _ q163) hs_X19_init (rm_ok (by omega) (by decide)), rfl, E.2.2.2.2 _ q1457⟩ (hv_preS hK hI) rfl rfl hl.1 rfl (lv_room (by first | rfl | decide | (simp [va_rf_cat, int_cat, long_cat]; done) | (simp [va_rf_cat, int_cat, long_cat]; decide))) dX1_stay_42 (hv_fit (by first | exact hB | omega))) (fun _ _ _ _ _ h => h.elim) (fun y18 H locs hw hI => ?_)
          have hu := hB
          refine hv_astore (r := some a17) (lv' := [(4, va_rf (some a17)), (0, va_rf (some a0)), (1, .int (i1)), (2, .int (i2)), (3, .int (i3))]) E.1 E.2.1 dX1_stay_45 hl (Nat.le_of_ble_eq_true rfl) (by first | rfl | decide | (simp [va_rf_cat, int_cat, long_cat]; done) | (simp [va_rf_cat, int_cat, long_cat]; decide)) (fun ls hl => ?_)
          refine hv_aload (r := some a17) E.1 E.2.1 dX1_stay_47 (lv_at hl 0 rfl) ?_
          refine lv_iload_n E.1 E.2.1 dX1_stay_49 rfl (lv_at hl 2 rfl) ?_
          obtain ⟨fs21, hfs, hln, hw⟩ := hw
          refine hv_putN (v := .int (i1)) E hK hI ciX19 0 (Nat.le_of_ble_eq_true rfl) q1464 (fun _ h => h) rfl rfl rfl hfs hln dX1_stay_50 (fun H locs hI => ?_)
          obtain ⟨y20, ey20⟩ : ∃ w, w = hput y18 a17 (ob 17 (fs21.set 0 (.int (i1)))) := ⟨_, rfl⟩
          rw [← ey20] at hI
          replace hw := hw y20 ey20
          refine hv_aload (r := some a17) E.1 E.2.1 dX1_stay_53 (lv_at hl 0 rfl) ?_
          refine lv_iload_n E.1 E.2.1 dX1_stay_55 rfl (lv_at hl 3 rfl) ?_
          obtain ⟨fs23, hfs, hln, hw⟩ := hw
          refine hv_putN (v := .int (i2)) E hK hI ciX19 1 (Nat.le_of_ble_eq_true rfl) q1466 (fun _ h => h) rfl rfl rfl hfs hln dX1_stay_56 (fun H locs hI => ?_)
          obtain ⟨y22, ey22⟩ : ∃ w, w = hput y20 a17 (ob 17 (fs23.set 1 (.int (i2)))) := ⟨_, rfl⟩
          rw [← ey22] at hI
          replace hw := hw y22 ey22
          refine hv_aload (r := some a17) E.1 E.2.1 dX1_stay_59 (lv_at hl 0 rfl) ?_
          refine lv_iload_n E.1 E.2.1 dX1_stay_61 rfl (lv_at hl 4 rfl) ?_
          obtain ⟨fs25, hfs, hln, hw⟩ := hw
          refine hv_putN (v := .int (i3)) E hK hI ciX19 2 (Nat.le_of_ble_eq_true rfl) q1468 (fun _ h => h) rfl rfl rfl hfs hln dX1_stay_62 (fun H locs hI => ?_)
          obtain ⟨y24, ey24⟩ : ∃ w, w = hput y22 a17 (ob 17 (fs25.set 2 (.int (i3)))) := ⟨_, rfl⟩
          rw [← ey24] at hI
          replace hw := hw y24 ey24
          refine hv_aload_n (r := some a0) E.1 E.2.1 dX1_stay_65 rfl (lv_at hl 1 rfl) ?_
          obtain ⟨f26, ⟨fs, hfs, hfk⟩, hw⟩ := hw
          refine hv_get (v := va_rf f26) E hK hI ciX1 3 (Nat.le_of_ble_eq_true rfl) q1423 (fun _ h => h) (Or.inl hfs) hfk dX1_stay_66 ?_
          refine hv_aload (r := some a17) E.1 E.2.1 dX1_stay_69 (lv_at hl 0 rfl) ?_
          obtain ⟨a27, ea27, hw⟩ := hw
          revert hl hw; subst ea27; intro hl hw
          obtain ⟨⟨fs30, hrv⟩, hw⟩ := hw
          obtain ⟨k31, hB, hw⟩ := hw
          have hq := hw
          clear hw
          refine hv_callz (u := (((0 + 1) + k19))) (B1 := k31) hI (vx_runV (As := [va_rf (some a17)]) (rest := []) E (met_J2_add l G (d) hq) (cwV 1 E.2.2.2.2 (lw_V q1486 q910 q911 q124 q912) rfl rfl rfl hd_J2_add (rm_ok (by omega) (by decide))) (hv_preV hK hI hrv rfl) rfl rfl hl.1 rfl (lv_room (by first | rfl | decide | (simp [va_rf_cat, int_cat, long_cat]; done) | (simp [va_rf_cat, int_cat, long_cat]; decide))) dX1_stay_71 (hv_fit (by first | exact hB | omega))) (fun _ _ _ _ _ h => h.elim) (fun b29 y28 H locs hw hI => ?_)
          have hu := hB
          refine lv_pop E.1 E.2.1 dX1_stay_74 rfl ?_
          refine hv_aload_n (r := some a0) E.1 E.2.1 dX1_stay_75 rfl (lv_at hl 1 rfl) ?_
          obtain ⟨f32, ⟨fs, hfs, hfk⟩, hw⟩ := hw
          refine hv_get (v := va_rf f32) E hK hI ciX1 3 (Nat.le_of_ble_eq_true rfl) q1423 (fun _ h => h) (Or.inl hfs) hfk dX1_stay_76 ?_
          obtain ⟨a33, ea33, hw⟩ := hw
          revert hl hw; subst ea33; intro hl hw
          obtain ⟨⟨fs36, hrv⟩, hw⟩ := hw
          have hq := hw
          clear hw
          refine hv_calli (u := ((((0 + 1) + k19) + k31))) (B1 := 0) hI (vx_runV (As := []) (rest := []) E (met_J2_size l G (d + 6) hq) (cwV 0 E.2.2.2.2 (lw_V q1453 q752 q753 q124 q754) rfl rfl rfl hd_J2_size (rm_ok (by omega) (by decide))) (hv_preV hK hI hrv rfl) rfl rfl hl.1 rfl (lv_room (by first | rfl | decide | (simp [va_rf_cat, int_cat, long_cat]; done) | (simp [va_rf_cat, int_cat, long_cat]; decide))) dX1_stay_79 (hv_fit (by first | exact hu | omega))) (fun _ _ _ _ _ h => h.elim) (fun x35 y34 H locs hw hI => ?_)
          refine lv_iconst (v := nI 1) E.1 E.2.1 dX1_stay_82 rfl ?_
          refine lv_isub E.1 E.2.1 dX1_stay_83 ?_
          exact hv_ireti E hr hlocks hI hu hw dX1_stay_84
        · replace hw := hw.2 (c15)
          refine lv_iconst (v := (-1)) E.1 E.2.1 dX1_stay_36 rfl ?_
          exact hv_ireti E hr hlocks hI hu hw dX1_stay_37
/-- CaseGrouper.isStay(I)Z -/
def wp_X1_isStay (G : GP) (post : Bool → HS → Prop) (y0 : HS) (a0 : Nat) (i1 : Int32) : Prop := ∃ f1, fR y0 a0 0 3 f1 ∧ ∃ a2, f1 = some a2 ∧ (∃ fs5, rd G y0 a2 (ob 18 fs5)) ∧ wp_J2_size G (fun x4 y3 => wp_X1_within G (fun b7 y6 => post b7 y6) y3 i1 (nI 0) (x4 - (nI 1))) y0 a2
theorem hs_X1_isStay : yX1_isStay.cls ≠ "java/lang/invoke/MethodHandle" ∧ yX1_isStay.cls ≠ "java/lang/invoke/VarHandle" ∧ (parseMethodDescriptor yX1_isStay.desc).map (fun d => d.parameters.length) = some 1 := by decide +kernel
theorem hd_X1_isStay : yX1_isStay.cls = RX1 ∧ yX1_isStay.cls ≠ "java/lang/invoke/MethodHandle" ∧ yX1_isStay.cls ≠ "java/lang/invoke/VarHandle" ∧ (parseMethodDescriptor yX1_isStay.desc).map (fun d => d.parameters.length) = some 1 := by decide +kernel
set_option maxHeartbeats 4000000 in
theorem met_X1_isStay (l : Launch) (htr : l.stackTraces = false) (G : GP) (d : Nat) {post : Bool → HS → Prop} {y0 : HS} {a0 : Nat} {i1 : Int32} (hw : wp_X1_isStay G post y0 a0 i1) : vx_Met l yX1_isStay (ws_ yX1_isStay cX1_isStay 2 (some .boolean)) (rmB (d + 1) 0) (hPc G y0 [va_rf (some a0), .int (i1)]) (hQz G y0 post) (hX G y0 (fun _ _ _ => False)) 0 (20 * 0) (HA y0) := by
  unfold wp_X1_isStay at hw
  refine hv_met (own := RX1) (by decide) rfl (Nat.le_of_ble_eq_true rfl) ?_
  intro p e s m args below meth c ls E hr hlocks hnm hE hK hI hl
  replace hl : lv_has ls 2 [(0, va_rf (some a0)), (1, .int (i1))] := hl
  refine lv_iload_n E.1 E.2.1 dX1_isStay_0 rfl (lv_at hl 1 rfl) ?_
  refine lv_iconst (v := nI 0) E.1 E.2.1 dX1_isStay_1 rfl ?_
  refine hv_aload_n (r := some a0) E.1 E.2.1 dX1_isStay_2 rfl (lv_at hl 0 rfl) ?_
  obtain ⟨f1, ⟨fs, hfs, hfk⟩, hw⟩ := hw
  refine hv_get (v := va_rf f1) E hK hI ciX1 3 (Nat.le_of_ble_eq_true rfl) q1423 (fun _ h => h) (Or.inl hfs) hfk dX1_isStay_3 ?_
  obtain ⟨a2, ea2, hw⟩ := hw
  revert hl hw; subst ea2; intro hl hw
  obtain ⟨⟨fs5, hrv⟩, hw⟩ := hw
  have hq := hw
  clear hw
  refine hv_calli (u := 0) (B1 := 0) hI (vx_runV (As := []) (rest := [.int (nI 0), .int (i1)]) E (met_J2_size l G (d) hq) (cwV 0 E.2.2.2.2 (lw_V q1453 q752 q753 q124 q754) rfl rfl rfl hd_J2_size (rm_ok (by omega) (by decide))) (hv_preV hK hI hrv rfl) rfl rfl hl.1 rfl (lv_room (by first | rfl | decide | (simp [va_rf_cat, int_cat, long_cat]; done) | (simp [va_rf_cat, int_cat, long_cat]; decide))) dX1_isStay_6 (hv_fit (by first | exact (Nat.le_refl 0) | omega))) (fun _ _ _ _ _ h => h.elim) (fun x4 y3 H locs hw hI => ?_)
  refine lv_iconst (v := nI 1) E.1 E.2.1 dX1_isStay_9 rfl ?_
  refine lv_isub E.1 E.2.1 dX1_isStay_10 ?_
  have hq := hw
  clear hw
  refine hv_callz (u := 0) (B1 := 0) hI (vx_runS (As := [.int (i1), .int (nI 0), .int (x4 - (nI 1))]) (rest := []) E (met_X1_within l G (d) hq) (va_cwS 3 E.2.2.2.2 (lw_S q180 q181 q121 q182) rfl rfl rfl hs_X1_within (rm_ok (by omega) (by decide))) (hv_preS hK hI) rfl rfl hl.1 rfl (lv_room (by first | rfl | decide | (simp [va_rf_cat, int_cat, long_cat]; done) | (simp [va_rf_cat, int_cat, long_cat]; decide))) dX1_isStay_11 (hv_fit (by first | exact (Nat.le_refl 0) | omega))) (fun _ _ _ _ _ h => h.elim) (fun b7 y6 H locs hw hI => ?_)
  exact hv_iretz (b := b7) E hr hlocks hI (Nat.le_refl 0) rfl hw dX1_isStay_14
/-- CaseGrouper.code(II)I -/
def wp_X1_code (G : GP) (B : Nat) (post : Int32 → HS → Prop) (y0 : HS) (a0 : Nat) (i1 : Int32) (i2 : Int32) : Prop := (∃ fs3, rd G y0 a0 (ob 0 fs3)) ∧ wp_X1_isStay G (fun b2 y1 => (b2 = false → post ((-1)) y1) ∧ (b2 = true → ∃ f5, fR y1 a0 0 3 f5 ∧ ∃ a6, f5 = some a6 ∧ (∃ fs9, rd G y1 a6 (ob 18 fs9)) ∧ wp_J2_get G (fun r8 y7 => isOf G y7 r8 17 ∧ ∃ a10, r8 = some a10 ∧ (∃ fs13, rd G y7 a10 (ob 17 fs13)) ∧ ∃ k14, 0 + k14 ≤ B ∧ wp_X19_mayHave G k14 (fun b12 y11 => (b12 = true → ∃ f16, fR y11 a0 0 3 f16 ∧ ∃ a17, f16 = some a17 ∧ (∃ fs20, rd G y11 a17 (ob 18 fs20)) ∧ wp_J2_get G (fun r19 y18 => isOf G y18 r19 17 ∧ ∃ a21, r19 = some a21 ∧ (∃ fs23, rd G y18 a21 (ob 17 fs23)) ∧ ∃ k24, (0 + k14) + k24 ≤ B ∧ wp_X19_takes G k24 (fun y22 => ∃ f25, fR y22 a0 0 3 f25 ∧ ∃ a26, f25 = some a26 ∧ (∃ fs29, rd G y22 a26 (ob 18 fs29)) ∧ wp_J2_get G (fun r28 y27 => isOf G y27 r28 17 ∧ ∃ a30, r28 = some a30 ∧ (∃ fs33, rd G y27 a30 (ob 17 fs33)) ∧ wp_X19_of G (fun r32 y31 => ∃ a34, r32 = some a34 ∧ (∃ fs37, rd G y31 a34 (ob 18 fs37)) ∧ wp_J2_size G (fun x36 y35 => post x36 y35) y31 a34) y27 a30 i2) y22 a26 i1) y18 a21 i2) y11 a17 i1) ∧ (b12 = false → post ((-1)) y11)) y7 a10 i2) y1 a6 i1)) y0 a0 i1
theorem hs_X1_code : yX1_code.cls ≠ "java/lang/invoke/MethodHandle" ∧ yX1_code.cls ≠ "java/lang/invoke/VarHandle" ∧ (parseMethodDescriptor yX1_code.desc).map (fun d => d.parameters.length) = some 2 := by decide +kernel
theorem hd_X1_code : yX1_code.cls = RX1 ∧ yX1_code.cls ≠ "java/lang/invoke/MethodHandle" ∧ yX1_code.cls ≠ "java/lang/invoke/VarHandle" ∧ (parseMethodDescriptor yX1_code.desc).map (fun d => d.parameters.length) = some 2 := by decide +kernel
set_option maxHeartbeats 4000000 in
theorem met_X1_code (l : Launch) (htr : l.stackTraces = false) (G : GP) (d : Nat) {B : Nat} {post : Int32 → HS → Prop} {y0 : HS} {a0 : Nat} {i1 : Int32} {i2 : Int32} (hw : wp_X1_code G B post y0 a0 i1 i2) : vx_Met l yX1_code (ws_ yX1_code cX1_code 3 (some .int)) (rmB (d + 7) B) (hPc G y0 [va_rf (some a0), .int (i1), .int (i2)]) (hQi G y0 post) (hX G y0 (fun _ _ _ => False)) B (20 * B) (HA y0) := by
  unfold wp_X1_code at hw
  refine hv_met (own := RX1) (by decide) rfl (Nat.le_of_ble_eq_true rfl) ?_
  intro p e s m args below meth c ls E hr hlocks hnm hE hK hI hl
  replace hl : lv_has ls 3 [(0, va_rf (some a0)), (1, .int (i1)), (2, .int (i2))] := hl
  have hu : 0 ≤ B := Nat.zero_le _
  refine hv_aload_n (r := some a0) E.1 E.2.1 dX1_code_0 rfl (lv_at hl 0 rfl) ?_
  refine lv_iload_n E.1 E.2.1 dX1_code_1 rfl (lv_at hl 1 rfl) ?_
  obtain ⟨⟨fs3, hrv⟩, hw⟩ := hw
  have hq := hw
  clear hw
  refine hv_callz (u := 0) (B1 := 0) hI (vx_runV (As := [.int (i1)]) (rest := []) E (met_X1_isStay l htr G (d + 5) hq) (cwV 1 E.2.2.2.2 (lw_V q1491 q1493 qs44 q121 q1494) rfl rfl rfl hd_X1_isStay (rm_ok (by omega) (by decide))) (hv_preV hK hI hrv rfl) rfl rfl hl.1 rfl (lv_room (by first | rfl | decide | (simp [va_rf_cat, int_cat, long_cat]; done) | (simp [va_rf_cat, int_cat, long_cat]; decide))) dX1_code_2 (hv_fit (by first | exact hu | omega))) (fun _ _ _ _ _ h => h.elim) (fun b2 y1 H locs hw hI => ?_)
  refine lv_if_eq (tgt := 26) E.1 E.2.1 dX1_code_5 (by decide) (fun c4 => ?_) (fun c4 => ?_)
  · replace hw := hw.1 (bi_z c4)
    refine lv_iconst (v := (-1)) E.1 E.2.1 dX1_code_26 rfl ?_
    exact hv_ireti E hr hlocks hI hu hw dX1_code_27
  · replace hw := hw.2 (bi_n c4)
    refine hv_aload_n (r := some a0) E.1 E.2.1 dX1_code_8 rfl (lv_at hl 0 rfl) ?_
    obtain ⟨f5, ⟨fs, hfs, hfk⟩, hw⟩ := hw
    refine hv_get (v := va_rf f5) E hK hI ciX1 3 (Nat.le_of_ble_eq_true rfl) q1423 (fun _ h => h) (Or.inl hfs) hfk dX1_code_9 ?_
    refine lv_iload_n E.1 E.2.1 dX1_code_12 rfl (lv_at hl 1 rfl) ?_
    obtain ⟨a6, ea6, hw⟩ := hw
    revert hl hw; subst ea6; intro hl hw
    obtain ⟨⟨fs9, hrv⟩, hw⟩ := hw
    have hq := hw
    clear hw
    refine hv_callq (u := 0) (B1 := 0) hI (vx_runV (As := [.int (i1)]) (rest := []) E (met_J2_get l G (d + 4) hq) (cwV 1 E.2.2.2.2 (lw_V q1495 q785 q786 q124 q787) rfl rfl rfl hd_J2_get (rm_ok (by omega) (by decide))) (hv_preV hK hI hrv rfl) rfl rfl hl.1 rfl (lv_room (by first | rfl | decide | (simp [va_rf_cat, int_cat, long_cat]; done) | (simp [va_rf_cat, int_cat, long_cat]; decide))) dX1_code_13 (hv_fit (by first | exact hu | omega))) (fun _ _ _ _ _ h => h.elim) (fun r8 y7 H locs hw hI => ?_)
    obtain ⟨hof, hw⟩ := hw
    refine hv_castC (cn := 17) E hK hI (by decide) q1454 hof dX1_code_16 ?_
    refine lv_iload_n E.1 E.2.1 dX1_code_19 rfl (lv_at hl 2 rfl) ?_
    obtain ⟨a10, ea10, hw⟩ := hw
    revert hl hw; subst ea10; intro hl hw
    obtain ⟨⟨fs13, hrv⟩, hw⟩ := hw
    obtain ⟨k14, hB, hw⟩ := hw
    have hq := hw
    clear hw
    refine hv_callz (u := 0) (B1 := k14) hI (vx_runV (As := [.int (i2)]) (rest := []) E (met_X19_mayHave l G (d + 1) hq) (cwV 1 E.2.2.2.2 (lw_V q1496 q1497 q1498 q163 q1499) rfl rfl rfl hd_X19_mayHave (rm_ok (by omega) (by decide))) (hv_preV hK hI hrv rfl) rfl rfl hl.1 rfl (lv_room (by first | rfl | decide | (simp [va_rf_cat, int_cat, long_cat]; done) | (simp [va_rf_cat, int_cat, long_cat]; decide))) dX1_code_20 (hv_fit (by first | exact hB | omega))) (fun _ _ _ _ _ h => h.elim) (fun b12 y11 H locs hw hI => ?_)
    have hu := hB
    refine lv_if_ne (tgt := 28) E.1 E.2.1 dX1_code_23 (by decide) (fun c15 => ?_) (fun c15 => ?_)
    · replace hw := hw.1 (bi_n c15)
      refine hv_aload_n (r := some a0) E.1 E.2.1 dX1_code_28 rfl (lv_at hl 0 rfl) ?_
      obtain ⟨f16, ⟨fs, hfs, hfk⟩, hw⟩ := hw
      refine hv_get (v := va_rf f16) E hK hI ciX1 3 (Nat.le_of_ble_eq_true rfl) q1423 (fun _ h => h) (Or.inl hfs) hfk dX1_code_29 ?_
      refine lv_iload_n E.1 E.2.1 dX1_code_32 rfl (lv_at hl 1 rfl) ?_
      obtain ⟨a17, ea17, hw⟩ := hw
      revert hl hw; subst ea17; intro hl hw
      obtain ⟨⟨fs20, hrv⟩, hw⟩ := hw
      have hq := hw
      clear hw
      refine hv_callq (u := ((0 + k14))) (B1 := 0) hI (vx_runV (As := [.int (i1)]) (rest := []) E (met_J2_get l G (d + 4) hq) (cwV 1 E.2.2.2.2 (lw_V q1495 q785 q786 q124 q787) rfl rfl rfl hd_J2_get (rm_ok (by omega) (by decide))) (hv_preV hK hI hrv rfl) rfl rfl hl.1 rfl (lv_room (by first | rfl | decide | (simp [va_rf_cat, int_cat, long_cat]; done) | (simp [va_rf_cat, int_cat, long_cat]; decide))) dX1_code_33 (hv_fit (by first | exact hu | omega))) (fun _ _ _ _ _ h => h.elim) (fun r19 y18 H locs hw hI => ?_)
      obtain ⟨hof, hw⟩ := hw
      refine hv_castC (cn := 17) E hK hI (by decide) q1454 hof dX1_code_36 ?_
      refine lv_iload_n E.1 E.2.1 dX1_code_39 rfl (lv_at hl 2 rfl) ?_
      obtain ⟨a21, ea21, hw⟩ := hw
      revert hl hw; subst ea21; intro hl hw
      obtain ⟨⟨fs23, hrv⟩, hw⟩ := hw
      obtain ⟨k24, hB, hw⟩ := hw
      have hq := hw
      clear hw
      refine hv_callv (u := ((0 + k14))) (B1 := k24) hI (vx_runV (As := [.int (i2)]) (rest := []) E (met_X19_takes l G (d) hq) (cwV 1 E.2.2.2.2 (lw_V q1559 q1560 q1561 q163 q1562) rfl rfl rfl hd_X19_takes (rm_ok (by omega) (by decide))) (hv_preV hK hI hrv rfl) rfl rfl hl.1 rfl (lv_room (by first | rfl | decide | (simp [va_rf_cat, int_cat, long_cat]; done) | (simp [va_rf_cat, int_cat, long_cat]; decide))) dX1_code_40 (hv_fit (by first | exact hB | omega))) (fun _ _ _ _ _ h => h.elim) (fun y22 H locs hw hI => ?_)
      have hu := hB
      refine hv_aload_n (r := some a0) E.1 E.2.1 dX1_code_43 rfl (lv_at hl 0 rfl) ?_
      obtain ⟨f25, ⟨fs, hfs, hfk⟩, hw⟩ := hw
      refine hv_get (v := va_rf f25) E hK hI ciX1 3 (Nat.le_of_ble_eq_true rfl) q1423 (fun _ h => h) (Or.inl hfs) hfk dX1_code_44 ?_
      refine lv_iload_n E.1 E.2.1 dX1_code_47 rfl (lv_at hl 1 rfl) ?_
      obtain ⟨a26, ea26, hw⟩ := hw
      revert hl hw; subst ea26; intro hl hw
      obtain ⟨⟨fs29, hrv⟩, hw⟩ := hw
      have hq := hw
      clear hw
      refine hv_callq (u := (((0 + k14) + k24))) (B1 := 0) hI (vx_runV (As := [.int (i1)]) (rest := []) E (met_J2_get l G (d + 4) hq) (cwV 1 E.2.2.2.2 (lw_V q1495 q785 q786 q124 q787) rfl rfl rfl hd_J2_get (rm_ok (by omega) (by decide))) (hv_preV hK hI hrv rfl) rfl rfl hl.1 rfl (lv_room (by first | rfl | decide | (simp [va_rf_cat, int_cat, long_cat]; done) | (simp [va_rf_cat, int_cat, long_cat]; decide))) dX1_code_48 (hv_fit (by first | exact hu | omega))) (fun _ _ _ _ _ h => h.elim) (fun r28 y27 H locs hw hI => ?_)
      obtain ⟨hof, hw⟩ := hw
      refine hv_castC (cn := 17) E hK hI (by decide) q1454 hof dX1_code_51 ?_
      refine lv_iload_n E.1 E.2.1 dX1_code_54 rfl (lv_at hl 2 rfl) ?_
      obtain ⟨a30, ea30, hw⟩ := hw
      revert hl hw; subst ea30; intro hl hw
      obtain ⟨⟨fs33, hrv⟩, hw⟩ := hw
      have hq := hw
      clear hw
      refine hv_callq (u := (((0 + k14) + k24))) (B1 := 0) hI (vx_runV (As := [.int (i2)]) (rest := []) E (met_X19_of l G (d + 4) hq) (cwV 1 E.2.2.2.2 (lw_V q1575 q1505 q1506 q163 q1507) rfl rfl rfl hd_X19_of (rm_ok (by omega) (by decide))) (hv_preV hK hI hrv rfl) rfl rfl hl.1 rfl (lv_room (by first | rfl | decide | (simp [va_rf_cat, int_cat, long_cat]; done) | (simp [va_rf_cat, int_cat, long_cat]; decide))) dX1_code_55 (hv_fit (by first | exact hu | omega))) (fun _ _ _ _ _ h => h.elim) (fun r32 y31 H locs hw hI => ?_)
      obtain ⟨a34, ea34, hw⟩ := hw
      revert hl hw; subst ea34; intro hl hw
      obtain ⟨⟨fs37, hrv⟩, hw⟩ := hw
      have hq := hw
      clear hw
      refine hv_calli (u := (((0 + k14) + k24))) (B1 := 0) hI (vx_runV (As := []) (rest := []) E (met_J2_size l G (d + 6) hq) (cwV 0 E.2.2.2.2 (lw_V q1453 q752 q753 q124 q754) rfl rfl rfl hd_J2_size (rm_ok (by omega) (by decide))) (hv_preV hK hI hrv rfl) rfl rfl hl.1 rfl (lv_room (by first | rfl | decide | (simp [va_rf_cat, int_cat, long_cat]; done) | (simp [va_rf_cat, int_cat, long_cat]; decide))) dX1_code_58 (hv_fit (by first | exact hu | omega))) (fun _ _ _ _ _ h => h.elim) (fun x36 y35 H locs hw hI => ?_)
      exact hv_ireti E hr hlocks hI hu hw dX1_code_61
    · replace hw := hw.2 (bi_z c15)
      refine lv_iconst (v := (-1)) E.1 E.2.1 dX1_code_26 rfl ?_
      exact hv_ireti E hr hlocks hI hu hw dX1_code_27
/-- CaseGrouper.drop(II)Z -/
def wp_X1_drop (G : GP) (B : Nat) (post : Bool → HS → Prop) (y0 : HS) (a0 : Nat) (i1 : Int32) (i2 : Int32) : Prop := (∃ fs3, rd G y0 a0 (ob 0 fs3)) ∧ wp_X1_isStay G (fun b2 y1 => (b2 = false → post false y1) ∧ (b2 = true → ∃ f5, fR y1 a0 0 3 f5 ∧ ∃ a6, f5 = some a6 ∧ (∃ fs9, rd G y1 a6 (ob 18 fs9)) ∧ wp_J2_get G (fun r8 y7 => isOf G y7 r8 17 ∧ ∃ a10, r8 = some a10 ∧ (∃ fs13, rd G y7 a10 (ob 17 fs13)) ∧ ∃ k14, 0 + k14 ≤ B ∧ wp_X19_loses G k14 (fun b12 y11 => (b12 = false → post false y11) ∧ (b12 = true → post true y11)) y7 a10 i2) y1 a6 i1)) y0 a0 i1
theorem hs_X1_drop : yX1_drop.cls ≠ "java/lang/invoke/MethodHandle" ∧ yX1_drop.cls ≠ "java/lang/invoke/VarHandle" ∧ (parseMethodDescriptor yX1_drop.desc).map (fun d => d.parameters.length) = some 2 := by decide +kernel
theorem hd_X1_drop : yX1_drop.cls = RX1 ∧ yX1_drop.cls ≠ "java/lang/invoke/MethodHandle" ∧ yX1_drop.cls ≠ "java/lang/invoke/VarHandle" ∧ (parseMethodDescriptor yX1_drop.desc).map (fun d => d.parameters.length) = some 2 := by decide +kernel
set_option maxHeartbeats 4000000 in
theorem met_X1_drop (l : Launch) (htr : l.stackTraces = false) (G : GP) (d : Nat) {B : Nat} {post : Bool → HS → Prop} {y0 : HS} {a0 : Nat} {i1 : Int32} {i2 : Int32} (hw : wp_X1_drop G B post y0 a0 i1 i2) : vx_Met l yX1_drop (ws_ yX1_drop cX1_drop 3 (some .boolean)) (rmB (d + 5) B) (hPc G y0 [va_rf (some a0), .int (i1), .int (i2)]) (hQz G y0 post) (hX G y0 (fun _ _ _ => False)) B (20 * B) (HA y0) := by
  unfold wp_X1_drop at hw
  refine hv_met (own := RX1) (by decide) rfl (Nat.le_of_ble_eq_true rfl) ?_
  intro p e s m args below meth c ls E hr hlocks hnm hE hK hI hl
  replace hl : lv_has ls 3 [(0, va_rf (some a0)), (1, .int (i1)), (2, .int (i2))] := hl
  have hu : 0 ≤ B := Nat.zero_le _
  refine hv_aload_n (r := some a0) E.1 E.2.1 dX1_drop_0 rfl (lv_at hl 0 rfl) ?_
  refine lv_iload_n E.1 E.2.1 dX1_drop_1 rfl (lv_at hl 1 rfl) ?_
  obtain ⟨⟨fs3, hrv⟩, hw⟩ := hw
  have hq := hw
  clear hw
  refine hv_callz (u := 0) (B1 := 0) hI (vx_runV (As := [.int (i1)]) (rest := []) E (met_X1_isStay l htr G (d + 3) hq) (cwV 1 E.2.2.2.2 (lw_V q1491 q1493 qs44 q121 q1494) rfl rfl rfl hd_X1_isStay (rm_ok (by omega) (by decide))) (hv_preV hK hI hrv rfl) rfl rfl hl.1 rfl (lv_room (by first | rfl | decide | (simp [va_rf_cat, int_cat, long_cat]; done) | (simp [va_rf_cat, int_cat, long_cat]; decide))) dX1_drop_2 (hv_fit (by first | exact hu | omega))) (fun _ _ _ _ _ h => h.elim) (fun b2 y1 H locs hw hI => ?_)
  refine lv_if_eq (tgt := 30) E.1 E.2.1 dX1_drop_5 (by decide) (fun c4 => ?_) (fun c4 => ?_)
  · replace hw := hw.1 (bi_z c4)
    refine lv_iconst (v := nI 0) E.1 E.2.1 dX1_drop_30 rfl ?_
    exact hv_iretz (b := false) E hr hlocks hI hu rfl hw dX1_drop_31
  · replace hw := hw.2 (bi_n c4)
    refine hv_aload_n (r := some a0) E.1 E.2.1 dX1_drop_8 rfl (lv_at hl 0 rfl) ?_
    obtain ⟨f5, ⟨fs, hfs, hfk⟩, hw⟩ := hw
    refine hv_get (v := va_rf f5) E hK hI ciX1 3 (Nat.le_of_ble_eq_true rfl) q1423 (fun _ h => h) (Or.inl hfs) hfk dX1_drop_9 ?_
    refine lv_iload_n E.1 E.2.1 dX1_drop_12 rfl (lv_at hl 1 rfl) ?_
    obtain ⟨a6, ea6, hw⟩ := hw
    revert hl hw; subst ea6; intro hl hw
    obtain ⟨⟨fs9, hrv⟩, hw⟩ := hw
    have hq := hw
    clear hw
    refine hv_callq (u := 0) (B1 := 0) hI (vx_runV (As := [.int (i1)]) (rest := []) E (met_J2_get l G (d + 2) hq) (cwV 1 E.2.2.2.2 (lw_V q1495 q785 q786 q124 q787) rfl rfl rfl hd_J2_get (rm_ok (by omega) (by decide))) (hv_preV hK hI hrv rfl) rfl rfl hl.1 rfl (lv_room (by first | rfl | decide | (simp [va_rf_cat, int_cat, long_cat]; done) | (simp [va_rf_cat, int_cat, long_cat]; decide))) dX1_drop_13 (hv_fit (by first | exact hu | omega))) (fun _ _ _ _ _ h => h.elim) (fun r8 y7 H locs hw hI => ?_)
    obtain ⟨hof, hw⟩ := hw
    refine hv_castC (cn := 17) E hK hI (by decide) q1454 hof dX1_drop_16 ?_
    refine lv_iload_n E.1 E.2.1 dX1_drop_19 rfl (lv_at hl 2 rfl) ?_
    obtain ⟨a10, ea10, hw⟩ := hw
    revert hl hw; subst ea10; intro hl hw
    obtain ⟨⟨fs13, hrv⟩, hw⟩ := hw
    obtain ⟨k14, hB, hw⟩ := hw
    have hq := hw
    clear hw
    refine hv_callz (u := 0) (B1 := k14) hI (vx_runV (As := [.int (i2)]) (rest := []) E (met_X19_loses l G (d) hq) (cwV 1 E.2.2.2.2 (lw_V q1580 q1581 q1582 q163 q1583) rfl rfl rfl hd_X19_loses (rm_ok (by omega) (by decide))) (hv_preV hK hI hrv rfl) rfl rfl hl.1 rfl (lv_room (by first | rfl | decide | (simp [va_rf_cat, int_cat, long_cat]; done) | (simp [va_rf_cat, int_cat, long_cat]; decide))) dX1_drop_20 (hv_fit (by first | exact hB | omega))) (fun _ _ _ _ _ h => h.elim) (fun b12 y11 H locs hw hI => ?_)
    have hu := hB
    refine lv_if_eq (tgt := 30) E.1 E.2.1 dX1_drop_23 (by decide) (fun c15 => ?_) (fun c15 => ?_)
    · replace hw := hw.1 (bi_z c15)
      refine lv_iconst (v := nI 0) E.1 E.2.1 dX1_drop_30 rfl ?_
      exact hv_iretz (b := false) E hr hlocks hI hu rfl hw dX1_drop_31
    · replace hw := hw.2 (bi_n c15)
      refine lv_iconst (v := nI 1) E.1 E.2.1 dX1_drop_26 rfl ?_
      refine lv_goto (tgt := 31) E.1 E.2.1 dX1_drop_27 (by decide) ?_
      exact hv_iretz (b := true) E hr hlocks hI hu rfl hw dX1_drop_31
/-- CaseGrouper.alter(III)I -/
def wp_X1_alter (G : GP) (B : Nat) (post : Int32 → HS → Prop) (y0 : HS) (a0 : Nat) (i1 : Int32) (i2 : Int32) (i3 : Int32) : Prop := (∃ fs3, rd G y0 a0 (ob 0 fs3)) ∧ wp_X1_isStay G (fun b2 y1 => (b2 = false → post ((-1)) y1) ∧ (b2 = true → wp_X1_isSo G (fun b6 y5 => (b6 = true → ∃ J8 : HS → Nat → (Option Nat) → Int32 → Prop, (∀ (y10 : HS) (u13 : Nat) (r11 : Option Nat) (x12 : Int32), J8 y10 u13 r11 x12 → u13 ≤ B ∧ (i2 = nI 0 → ∃ a15, r11 = some a15 ∧ ∃ fs17, y10.1 a15 = some (ob 17 fs17) ∧ 0 < fs17.length ∧ ∀ y16, y16 = hput y10 a15 (ob 17 (fs17.set 0 (.int (i3)))) → ∃ f18, fR y16 a15 17 3 f18 ∧ ∃ k21, u13 + k21 ≤ B ∧ wp_J13_valueOf G k21 (fun r20 y19 => ∃ a22, f18 = some a22 ∧ (∃ fs25, rd G y19 a22 (ob 18 fs25)) ∧ wp_J2_contains G (fun b24 y23 => (b24 = false → post x12 y23) ∧ (b24 = true → ∃ f27, fR y23 a15 17 3 f27 ∧ ∃ k30, (u13 + k21) + k30 ≤ B ∧ wp_J13_valueOf G k30 (fun r29 y28 => ∃ a31, f27 = some a31 ∧ (∃ fs34, rd G y28 a31 (ob 18 fs34)) ∧ wp_J2_remove G (fun b33 y32 => post x12 y32) y28 a31 r29) y23 i3)) y19 a22 r20) y16 i3) ∧ (¬ i2 = nI 0 → (i2 = nI 1 → ∃ a36, r11 = some a36 ∧ ∃ fs38, y10.1 a36 = some (ob 17 fs38) ∧ 1 < fs38.length ∧ ∀ y37, y37 = hput y10 a36 (ob 17 (fs38.set 1 (.int (i3)))) → post x12 y37) ∧ (¬ i2 = nI 1 → ∃ a39, r11 = some a39 ∧ ∃ fs41, y10.1 a39 = some (ob 17 fs41) ∧ 2 < fs41.length ∧ ∀ y40, y40 = hput y10 a39 (ob 17 (fs41.set 2 (.int (i3)))) → post x12 y40))) ∧ (∃ f42, fR y5 a0 0 3 f42 ∧ ∃ a43, f42 = some a43 ∧ (∃ fs46, rd G y5 a43 (ob 18 fs46)) ∧ wp_J2_get G (fun r45 y44 => isOf G y44 r45 17 ∧ (¬ i2 = 0 → (¬ i2 = (nI 1) → ∃ a49, r45 = some a49 ∧ ∃ f50, fI y44 a49 17 2 f50 ∧ J8 y44 0 (some a49) f50) ∧ (i2 = (nI 1) → ∃ a51, r45 = some a51 ∧ ∃ f52, fI y44 a51 17 1 f52 ∧ J8 y44 0 (some a51) f52)) ∧ (i2 = 0 → ∃ a53, r45 = some a53 ∧ ∃ f54, fI y44 a53 17 0 f54 ∧ J8 y44 0 (some a53) f54)) y5 a43 i1)) ∧ (b6 = false → post ((-1)) y5)) y1 i2 i3)) y0 a0 i1
theorem hs_X1_alter : yX1_alter.cls ≠ "java/lang/invoke/MethodHandle" ∧ yX1_alter.cls ≠ "java/lang/invoke/VarHandle" ∧ (parseMethodDescriptor yX1_alter.desc).map (fun d => d.parameters.length) = some 3 := by decide +kernel
theorem hd_X1_alter : yX1_alter.cls = RX1 ∧ yX1_alter.cls ≠ "java/lang/invoke/MethodHandle" ∧ yX1_alter.cls ≠ "java/lang/invoke/VarHandle" ∧ (parseMethodDescriptor yX1_alter.desc).map (fun d => d.parameters.length) = some 3 := by decide +kernel
set_option maxHeartbeats 4000000 in
theorem met_X1_alter (l : Launch) (htr : l.stackTraces = false) (G : GP) (d : Nat) {B : Nat} {post : Int32 → HS → Prop} {y0 : HS} {a0 : Nat} {i1 : Int32} {i2 : Int32} {i3 : Int32} (hw : wp_X1_alter G B post y0 a0 i1 i2 i3) : vx_Met l yX1_alter (ws_ yX1_alter cX1_alter 6 (some .int)) (rmB (d + 5) B) (hPc G y0 [va_rf (some a0), .int (i1), .int (i2), .int (i3)]) (hQi G y0 post) (hX G y0 (fun _ _ _ => False)) B (20 * B) (HA y0) := by
  unfold wp_X1_alter at hw
  refine hv_met (own := RX1) (by decide) rfl (Nat.le_of_ble_eq_true rfl) ?_
  intro p e s m args below meth c ls E hr hlocks hnm hE hK hI hl
  replace hl : lv_has ls 6 [(0, va_rf (some a0)), (1, .int (i1)), (2, .int (i2)), (3, .int (i3))] := hl
  have hu : 0 ≤ B := Nat.zero_le _
  refine hv_aload_n (r := some a0) E.1 E.2.1 dX1_alter_0 rfl (lv_at hl 0 rfl) ?_
  refine lv_iload_n E.1 E.2.1 dX1_alter_1 rfl (lv_at hl 1 rfl) ?_
  obtain ⟨⟨fs3, hrv⟩, hw⟩ := hw
  have hq := hw
  clear hw
  refine hv_callz (u := 0) (B1 := 0) hI (vx_runV (As := [.int (i1)]) (rest := []) E (met_X1_isStay l htr G (d + 3) hq) (cwV 1 E.2.2.2.2 (lw_V q1491 q1493 qs44 q121 q1494) rfl rfl rfl hd_X1_isStay (rm_ok (by omega) (by decide))) (hv_preV hK hI hrv rfl) rfl rfl hl.1 rfl (lv_room (by first | rfl | decide | (simp [va_rf_cat, int_cat, long_cat]; done) | (simp [va_rf_cat, int_cat, long_cat]; decide))) dX1_alter_2 (hv_fit (by first | exact hu | omega))) (fun _ _ _ _ _ h => h.elim) (fun b2 y1 H locs hw hI => ?_)
  refine lv_if_eq (tgt := 16) E.1 E.2.1 dX1_alter_5 (by decide) (fun c4 => ?_) (fun c4 => ?_)
  · replace hw := hw.1 (bi_z c4)
    refine lv_iconst (v := (-1)) E.1 E.2.1 dX1_alter_16 rfl ?_
    exact hv_ireti E hr hlocks hI hu hw dX1_alter_17
  · replace hw := hw.2 (bi_n c4)
    refine lv_iload_n E.1 E.2.1 dX1_alter_8 rfl (lv_at hl 2 rfl) ?_
    refine lv_iload_n E.1 E.2.1 dX1_alter_9 rfl (lv_at hl 3 rfl) ?_
    have hq := hw
    clear hw
    refine hv_callz (u := 0) (B1 := 0) hI (vx_runS (As := [.int (i2), .int (i3)]) (rest := []) E (met_X1_isSo l htr G (d + 2) hq) (va_cwS 2 E.2.2.2.2 (lw_S q1449 q1450 q121 q1451) rfl rfl rfl hs_X1_isSo (rm_ok (by omega) (by decide))) (hv_preS hK hI) rfl rfl hl.1 rfl (lv_room (by first | rfl | decide | (simp [va_rf_cat, int_cat, long_cat]; done) | (simp [va_rf_cat, int_cat, long_cat]; decide))) dX1_alter_10 (hv_fit (by first | exact hu | omega))) (fun _ _ _ _ _ h => h.elim) (fun b6 y5 H locs hw hI => ?_)
    refine lv_if_ne (tgt := 18) E.1 E.2.1 dX1_alter_13 (by decide) (fun c7 => ?_) (fun c7 => ?_)
    · replace hw := hw.1 (bi_n c7)
      obtain ⟨J8, hj55, hw⟩ := hw
      have jh9 : ∀ (y10 : HS) (u13 : Nat) (r11 : Option Nat) (x12 : Int32), J8 y10 u13 r11 x12 → ∀ (H : Heap) (locs : List Loc) (ls : Array Slot), HI G y0 y10 s H locs → lv_has ls 6 [(2, .int (i2)), (3, .int (i3)), (4, va_rf r11)] → W p l e (rmB (d + 5) B) s m args below meth c H locs u13 (20 * u13) (vx_MQ below (hQi G y0 post) (hX G y0 (fun _ _ _ => False)) args s B (20 * B) (HA y0)) (F0 m 61 ls [.int (x12)]) := by
        intro y10 u13 r11 x12 hw H locs ls hI hl
        replace hw := hj55 y10 u13 r11 x12 hw
        obtain ⟨hu, hw⟩ := hw
        refine lv_istore (lv' := [(5, .int (x12)), (2, .int (i2)), (3, .int (i3)), (4, va_rf r11)]) E.1 E.2.1 dX1_alter_61 hl (Nat.le_of_ble_eq_true rfl) (by first | rfl | decide | (simp [va_rf_cat, int_cat, long_cat]; done) | (simp [va_rf_cat, int_cat, long_cat]; decide)) (fun ls hl => ?_)
        refine lv_iload_n E.1 E.2.1 dX1_alter_63 rfl (lv_at hl 1 rfl) ?_
        by_cases c14 : i2 = nI 0
        · replace hw := hw.1 c14
          have hti : i2.toInt = 0 := by rw [c14]; decide
          refine lv_lookup (tgt := 92) (off := 28) E.1 E.2.1 dX1_alter_64 (by decide) (by rw [hti]; decide) (by decide) ?_
          refine hv_aload (r := r11) E.1 E.2.1 dX1_alter_92 (lv_at hl 3 rfl) ?_
          refine lv_iload_n E.1 E.2.1 dX1_alter_94 rfl (lv_at hl 2 rfl) ?_
          obtain ⟨a15, ea15, hw⟩ := hw
          revert hl hw; subst ea15; intro hl hw
          obtain ⟨fs17, hfs, hln, hw⟩ := hw
          refine hv_putN (v := .int (i3)) E hK hI ciX19 0 (Nat.le_of_ble_eq_true rfl) q1464 (fun _ h => h) rfl rfl rfl hfs hln dX1_alter_95 (fun H locs hI => ?_)
          obtain ⟨y16, ey16⟩ : ∃ w, w = hput y10 a15 (ob 17 (fs17.set 0 (.int (i3)))) := ⟨_, rfl⟩
          rw [← ey16] at hI
          replace hw := hw y16 ey16
          refine hv_aload (r := some a15) E.1 E.2.1 dX1_alter_98 (lv_at hl 3 rfl) ?_
          obtain ⟨f18, ⟨fs, hfs, hfk⟩, hw⟩ := hw
          refine hv_getN (v := va_rf f18) E hK hI ciX19 3 (Nat.le_of_ble_eq_true rfl) q1471 (fun _ h => h) (Or.inl hfs) hfk dX1_alter_100 ?_
          refine lv_iload_n E.1 E.2.1 dX1_alter_103 rfl (lv_at hl 2 rfl) ?_
          obtain ⟨k21, hB, hw⟩ := hw
          have hq := hw
          clear hw
          refine hv_callq (u := u13) (B1 := k21) hI (vx_runS (As := [.int (i3)]) (rest := [va_rf f18]) E (met_J13_valueOf l G (d + 1) hq) (va_cwS 1 E.2.2.2.2 (lw_S q1596 q540 q141 q541) rfl rfl rfl hs_J13_valueOf (rm_ok (by omega) (by decide))) (hv_preS hK hI) rfl rfl hl.1 rfl (lv_room (by first | rfl | decide | (simp [va_rf_cat, int_cat, long_cat]; done) | (simp [va_rf_cat, int_cat, long_cat]; decide))) dX1_alter_104 (hv_fit (by first | exact hB | omega))) (fun _ _ _ _ _ h => h.elim) (fun r20 y19 H locs hw hI => ?_)
          have hu := hB
          obtain ⟨a22, ea22, hw⟩ := hw
          revert hl hw; subst ea22; intro hl hw
          obtain ⟨⟨fs25, hrv⟩, hw⟩ := hw
          have hq := hw
          clear hw
          refine hv_callz (u := ((u13 + k21))) (B1 := 0) hI (vx_runV (As := [va_rf r20]) (rest := []) E (met_J2_contains l G (d) hq) (cwV 1 E.2.2.2.2 (lw_V q1597 q1510 q1511 q124 q1512) rfl rfl rfl hd_J2_contains (rm_ok (by omega) (by decide))) (hv_preV hK hI hrv rfl) rfl rfl hl.1 rfl (lv_room (by first | rfl | decide | (simp [va_rf_cat, int_cat, long_cat]; done) | (simp [va_rf_cat, int_cat, long_cat]; decide))) dX1_alter_107 (hv_fit (by first | exact hu | omega))) (fun _ _ _ _ _ h => h.elim) (fun b24 y23 H locs hw hI => ?_)
          refine lv_if_eq (tgt := 144) E.1 E.2.1 dX1_alter_110 (by decide) (fun c26 => ?_) (fun c26 => ?_)
          · replace hw := hw.1 (bi_z c26)
            refine lv_iload E.1 E.2.1 dX1_alter_144 (lv_at hl 0 rfl) ?_
            exact hv_ireti E hr hlocks hI hu hw dX1_alter_146
          · replace hw := hw.2 (bi_n c26)
            refine hv_aload (r := some a15) E.1 E.2.1 dX1_alter_113 (lv_at hl 3 rfl) ?_
            obtain ⟨f27, ⟨fs, hfs, hfk⟩, hw⟩ := hw
            refine hv_getN (v := va_rf f27) E hK hI ciX19 3 (Nat.le_of_ble_eq_true rfl) q1471 (fun _ h => h) (Or.inl hfs) hfk dX1_alter_115 ?_
            refine lv_iload_n E.1 E.2.1 dX1_alter_118 rfl (lv_at hl 2 rfl) ?_
            obtain ⟨k30, hB, hw⟩ := hw
            have hq := hw
            clear hw
            refine hv_callq (u := ((u13 + k21))) (B1 := k30) hI (vx_runS (As := [.int (i3)]) (rest := [va_rf f27]) E (met_J13_valueOf l G (d + 1) hq) (va_cwS 1 E.2.2.2.2 (lw_S q1596 q540 q141 q541) rfl rfl rfl hs_J13_valueOf (rm_ok (by omega) (by decide))) (hv_preS hK hI) rfl rfl hl.1 rfl (lv_room (by first | rfl | decide | (simp [va_rf_cat, int_cat, long_cat]; done) | (simp [va_rf_cat, int_cat, long_cat]; decide))) dX1_alter_119 (hv_fit (by first | exact hB | omega))) (fun _ _ _ _ _ h => h.elim) (fun r29 y28 H locs hw hI => ?_)
            have hu := hB
            obtain ⟨a31, ea31, hw⟩ := hw
            revert hl hw; subst ea31; intro hl hw
            obtain ⟨⟨fs34, hrv⟩, hw⟩ := hw
            have hq := hw
            clear hw
            refine hv_callz (u := (((u13 + k21) + k30))) (B1 := 0) hI (vx_runV (As := [va_rf r29]) (rest := []) E (met_J2_remove l G (d + 2) hq) (cwV 1 E.2.2.2.2 (lw_V q1598 q1585 q1586 q124 q1587) rfl rfl rfl hd_J2_remove (rm_ok (by omega) (by decide))) (hv_preV hK hI hrv rfl) rfl rfl hl.1 rfl (lv_room (by first | rfl | decide | (simp [va_rf_cat, int_cat, long_cat]; done) | (simp [va_rf_cat, int_cat, long_cat]; decide))) dX1_alter_122 (hv_fit (by first | exact hu | omega))) (fun _ _ _ _ _ h => h.elim) (fun b33 y32 H locs hw hI => ?_)
            refine lv_pop E.1 E.2.1 dX1_alter_125 rfl ?_
            refine lv_goto (tgt := 144) E.1 E.2.1 dX1_alter_126 (by decide) ?_
            refine lv_iload E.1 E.2.1 dX1_alter_144 (lv_at hl 0 rfl) ?_
            exact hv_ireti E hr hlocks hI hu hw dX1_alter_146
        replace hw := hw.2 c14
        by_cases c35 : i2 = nI 1
        · replace hw := hw.1 c35
          have hti : i2.toInt = 1 := by rw [c35]; decide
          refine lv_lookup (tgt := 129) (off := 65) E.1 E.2.1 dX1_alter_64 (by decide) (by rw [hti]; decide) (by decide) ?_
          refine hv_aload (r := r11) E.1 E.2.1 dX1_alter_129 (lv_at hl 3 rfl) ?_
          refine lv_iload_n E.1 E.2.1 dX1_alter_131 rfl (lv_at hl 2 rfl) ?_
          obtain ⟨a36, ea36, hw⟩ := hw
          revert hl hw; subst ea36; intro hl hw
          obtain ⟨fs38, hfs, hln, hw⟩ := hw
          refine hv_putN (v := .int (i3)) E hK hI ciX19 1 (Nat.le_of_ble_eq_true rfl) q1466 (fun _ h => h) rfl rfl rfl hfs hln dX1_alter_132 (fun H locs hI => ?_)
          obtain ⟨y37, ey37⟩ : ∃ w, w = hput y10 a36 (ob 17 (fs38.set 1 (.int (i3)))) := ⟨_, rfl⟩
          rw [← ey37] at hI
          replace hw := hw y37 ey37
          refine lv_goto (tgt := 144) E.1 E.2.1 dX1_alter_135 (by decide) ?_
          refine lv_iload E.1 E.2.1 dX1_alter_144 (lv_at hl 0 rfl) ?_
          exact hv_ireti E hr hlocks hI hu hw dX1_alter_146
        replace hw := hw.2 c35
        refine lv_lookup (tgt := 138) (off := 74) E.1 E.2.1 dX1_alter_64 (by decide) ((lv_osw c14 (by decide)).trans ((lv_osw c35 (by decide)).trans rfl)) (by decide) ?_
        · skip
          refine hv_aload (r := r11) E.1 E.2.1 dX1_alter_138 (lv_at hl 3 rfl) ?_
          refine lv_iload_n E.1 E.2.1 dX1_alter_140 rfl (lv_at hl 2 rfl) ?_
          obtain ⟨a39, ea39, hw⟩ := hw
          revert hl hw; subst ea39; intro hl hw
          obtain ⟨fs41, hfs, hln, hw⟩ := hw
          refine hv_putN (v := .int (i3)) E hK hI ciX19 2 (Nat.le_of_ble_eq_true rfl) q1468 (fun _ h => h) rfl rfl rfl hfs hln dX1_alter_141 (fun H locs hI => ?_)
          obtain ⟨y40, ey40⟩ : ∃ w, w = hput y10 a39 (ob 17 (fs41.set 2 (.int (i3)))) := ⟨_, rfl⟩
          rw [← ey40] at hI
          replace hw := hw y40 ey40
          refine lv_iload E.1 E.2.1 dX1_alter_144 (lv_at hl 0 rfl) ?_
          exact hv_ireti E hr hlocks hI hu hw dX1_alter_146
      refine hv_aload_n (r := some a0) E.1 E.2.1 dX1_alter_18 rfl (lv_at hl 0 rfl) ?_
      obtain ⟨f42, ⟨fs, hfs, hfk⟩, hw⟩ := hw
      refine hv_get (v := va_rf f42) E hK hI ciX1 3 (Nat.le_of_ble_eq_true rfl) q1423 (fun _ h => h) (Or.inl hfs) hfk dX1_alter_19 ?_
      refine lv_iload_n E.1 E.2.1 dX1_alter_22 rfl (lv_at hl 1 rfl) ?_
      obtain ⟨a43, ea43, hw⟩ := hw
      revert hl hw; subst ea43; intro hl hw
      obtain ⟨⟨fs46, hrv⟩, hw⟩ := hw
      have hq := hw
      clear hw
      refine hv_callq (u := 0) (B1 := 0) hI (vx_runV (As := [.int (i1)]) (rest := []) E (met_J2_get l G (d + 2) hq) (cwV 1 E.2.2.2.2 (lw_V q1495 q785 q786 q124 q787) rfl rfl rfl hd_J2_get (rm_ok (by omega) (by decide))) (hv_preV hK hI hrv rfl) rfl rfl hl.1 rfl (lv_room (by first | rfl | decide | (simp [va_rf_cat, int_cat, long_cat]; done) | (simp [va_rf_cat, int_cat, long_cat]; decide))) dX1_alter_23 (hv_fit (by first | exact hu | omega))) (fun _ _ _ _ _ h => h.elim) (fun r45 y44 H locs hw hI => ?_)
      obtain ⟨hof, hw⟩ := hw
      refine hv_castC (cn := 17) E hK hI (by decide) q1454 hof dX1_alter_26 ?_
      refine hv_astore (r := r45) (lv' := [(4, va_rf r45), (0, va_rf (some a0)), (1, .int (i1)), (2, .int (i2)), (3, .int (i3))]) E.1 E.2.1 dX1_alter_29 hl (Nat.le_of_ble_eq_true rfl) (by first | rfl | decide | (simp [va_rf_cat, int_cat, long_cat]; done) | (simp [va_rf_cat, int_cat, long_cat]; decide)) (fun ls hl => ?_)
      refine lv_iload_n E.1 E.2.1 dX1_alter_31 rfl (lv_at hl 3 rfl) ?_
      refine lv_if_ne (tgt := 43) E.1 E.2.1 dX1_alter_32 (by decide) (fun c47 => ?_) (fun c47 => ?_)
      · replace hw := hw.1 (c47)
        refine lv_iload_n E.1 E.2.1 dX1_alter_43 rfl (lv_at hl 3 rfl) ?_
        refine lv_iconst (v := nI 1) E.1 E.2.1 dX1_alter_44 rfl ?_
        refine lv_icmp_ne (tgt := 56) E.1 E.2.1 dX1_alter_45 (by decide) (fun c48 => ?_) (fun c48 => ?_)
        · replace hw := hw.1 (c48)
          refine hv_aload (r := r45) E.1 E.2.1 dX1_alter_56 (lv_at hl 0 rfl) ?_
          obtain ⟨a49, ea49, hw⟩ := hw
          revert hl hw; subst ea49; intro hl hw
          obtain ⟨f50, ⟨fs, hfs, hfk⟩, hw⟩ := hw
          refine hv_getN (v := .int f50) E hK hI ciX19 2 (Nat.le_of_ble_eq_true rfl) q1468 (fun _ h => h) (Or.inl hfs) hfk dX1_alter_58 ?_
          exact jh9 _ _ _ _ hw _ _ _ hI (lv_sub hl [3, 4, 0] rfl)
        · replace hw := hw.2 (c48)
          refine hv_aload (r := r45) E.1 E.2.1 dX1_alter_48 (lv_at hl 0 rfl) ?_
          obtain ⟨a51, ea51, hw⟩ := hw
          revert hl hw; subst ea51; intro hl hw
          obtain ⟨f52, ⟨fs, hfs, hfk⟩, hw⟩ := hw
          refine hv_getN (v := .int f52) E hK hI ciX19 1 (Nat.le_of_ble_eq_true rfl) q1466 (fun _ h => h) (Or.inl hfs) hfk dX1_alter_50 ?_
          refine lv_goto (tgt := 61) E.1 E.2.1 dX1_alter_53 (by decide) ?_
          exact jh9 _ _ _ _ hw _ _ _ hI (lv_sub hl [3, 4, 0] rfl)
      · replace hw := hw.2 (c47)
        refine hv_aload (r := r45) E.1 E.2.1 dX1_alter_35 (lv_at hl 0 rfl) ?_
        obtain ⟨a53, ea53, hw⟩ := hw
        revert hl hw; subst ea53; intro hl hw
        obtain ⟨f54, ⟨fs, hfs, hfk⟩, hw⟩ := hw
        refine hv_getN (v := .int f54) E hK hI ciX19 0 (Nat.le_of_ble_eq_true rfl) q1464 (fun _ h => h) (Or.inl hfs) hfk dX1_alter_37 ?_
        refine lv_goto (tgt := 61) E.1 E.2.1 dX1_alter_40 (by decide) ?_
        exact jh9 _ _ _ _ hw _ _ _ hI (lv_sub hl [3, 4, 0] rfl)
    · replace hw := hw.2 (bi_z c7)
      refine lv_iconst (v := (-1)) E.1 E.2.1 dX1_alter_16 rfl ?_
      exact hv_ireti E hr hlocks hI hu hw dX1_alter_17
/-- CaseGrouper.clear()I -/
def wp_X1_clear (G : GP) (post : Int32 → HS → Prop) (y0 : HS) (a0 : Nat) : Prop := ∃ f1, fR y0 a0 0 3 f1 ∧ ∃ a2, f1 = some a2 ∧ (∃ fs5, rd G y0 a2 (ob 18 fs5)) ∧ wp_J2_size G (fun x4 y3 => ∃ f6, fR y3 a0 0 3 f6 ∧ ∃ a7, f6 = some a7 ∧ (∃ fs9, rd G y3 a7 (ob 18 fs9)) ∧ wp_J2_clear G (fun y8 => post x4 y8) y3 a7) y0 a2
theorem hs_X1_clear : yX1_clear.cls ≠ "java/lang/invoke/MethodHandle" ∧ yX1_clear.cls ≠ "java/lang/invoke/VarHandle" ∧ (parseMethodDescriptor yX1_clear.desc).map (fun d => d.parameters.length) = some 0 := by decide +kernel
theorem hd_X1_clear : yX1_clear.cls = RX1 ∧ yX1_clear.cls ≠ "java/lang/invoke/MethodHandle" ∧ yX1_clear.cls ≠ "java/lang/invoke/VarHandle" ∧ (parseMethodDescriptor yX1_clear.desc).map (fun d => d.parameters.length) = some 0 := by decide +kernel
set_option maxHeartbeats 4000000 in
theorem met_X1_clear (l : Launch) (htr : l.stackTraces = false) (G : GP) (d : Nat) {post : Int32 → HS → Prop} {y0 : HS} {a0 : Nat} (hw : wp_X1_clear G post y0 a0) : vx_Met l yX1_clear (ws_ yX1_clear cX1_clear 2 (some .int)) (rmB (d + 1) 0) (hPc G y0 [va_rf (some a0)]) (hQi G y0 post) (hX G y0 (fun _ _ _ => False)) 0 (20 * 0) (HA y0) := by
  unfold wp_X1_clear at hw
  refine hv_met (own := RX1) (by decide) rfl (Nat.le_of_ble_eq_true rfl) ?_
  intro p e s m args below meth c ls E hr hlocks hnm hE hK hI hl
  replace hl : lv_has ls 2 [(0, va_rf (some a0))] := hl
  refine hv_aload_n (r := some a0) E.1 E.2.1 dX1_clear_0 rfl (lv_at hl 0 rfl) ?_
  obtain ⟨f1, ⟨fs, hfs, hfk⟩, hw⟩ := hw
  refine hv_get (v := va_rf f1) E hK hI ciX1 3 (Nat.le_of_ble_eq_true rfl) q1423 (fun _ h => h) (Or.inl hfs) hfk dX1_clear_1 ?_
  obtain ⟨a2, ea2, hw⟩ := hw
  revert hl hw; subst ea2; intro hl hw
  obtain ⟨⟨fs5, hrv⟩, hw⟩ := hw
  have hq := hw
  clear hw
  refine hv_calli (u := 0) (B1 := 0) hI (vx_runV (As := []) (rest := []) E (met_J2_size l G (d) hq) (cwV 0 E.2.2.2.2 (lw_V q1453 q752 q753 q124 q754) rfl rfl rfl hd_J2_size (rm_ok (by omega) (by decide))) (hv_preV hK hI hrv rfl) rfl rfl hl.1 rfl (lv_room (by first | rfl | decide | (simp [va_rf_cat, int_cat, long_cat]; done) | (simp [va_rf_cat, int_cat, long_cat]; decide))) dX1_clear_4 (hv_fit (by first | exact (Nat.le_refl 0) | omega))) (fun _ _ _ _ _ h => h.elim) (fun x4 y3 H locs hw hI => ?_)
  refine lv_istore_n (lv' := [(1, .int (x4)), (0, va_rf (some a0))]) E.1 E.2.1 dX1_clear_7 rfl hl (Nat.le_of_ble_eq_true rfl) (by first | rfl | decide | (simp [va_rf_cat, int_cat, long_cat]; done) | (simp [va_rf_cat, int_cat, long_cat]; decide)) (fun ls hl => ?_)
  refine hv_aload_n (r := some a0) E.1 E.2.1 dX1_clear_8 rfl (lv_at hl 1 rfl) ?_
  obtain ⟨f6, ⟨fs, hfs, hfk⟩, hw⟩ := hw
  refine hv_get (v := va_rf f6) E hK hI ciX1 3 (Nat.le_of_ble_eq_true rfl) q1423 (fun _ h => h) (Or.inl hfs) hfk dX1_clear_9 ?_
  obtain ⟨a7, ea7, hw⟩ := hw
  revert hl hw; subst ea7; intro hl hw
  obtain ⟨⟨fs9, hrv⟩, hw⟩ := hw
  have hq := hw
  clear hw
  refine hv_callv (u := 0) (B1 := 0) hI (vx_runV (As := []) (rest := []) E (met_J2_clear l G (d) hq) (cwV 0 E.2.2.2.2 (lw_V q1603 q1604 q1605 q124 q1606) rfl rfl rfl hd_J2_clear (rm_ok (by omega) (by decide))) (hv_preV hK hI hrv rfl) rfl rfl hl.1 rfl (lv_room (by first | rfl | decide | (simp [va_rf_cat, int_cat, long_cat]; done) | (simp [va_rf_cat, int_cat, long_cat]; decide))) dX1_clear_12 (hv_fit (by first | exact (Nat.le_refl 0) | omega))) (fun _ _ _ _ _ h => h.elim) (fun y8 H locs hw hI => ?_)
  refine lv_iload_n E.1 E.2.1 dX1_clear_15 rfl (lv_at hl 0 rfl) ?_
  exact hv_ireti E hr hlocks hI (Nat.le_refl 0) hw dX1_clear_16
/-- CaseGrouper.looks(I)V -/
def wp_X1_looks (G : GP) (post : HS → Prop) (y0 : HS) (a0 : Nat) (i1 : Int32) : Prop := ∃ f1, fR y0 a0 0 6 f1 ∧ ∃ f2, fR y0 a0 0 4 f2 ∧ ∃ f3, fR y0 a0 0 3 f3 ∧ ∃ a4, f3 = some a4 ∧ (∃ fs7, rd G y0 a4 (ob 18 fs7)) ∧ wp_J2_get G (fun r6 y5 => isOf G y5 r6 17 ∧ ∃ a8, f1 = some a8 ∧ (∃ fs10, rd G y5 a8 (ob 2 fs10)) ∧ wp_X4_looks G (fun y9 => post y9) y5 a8 f2 r6) y0 a4 i1
theorem hs_X1_looks : yX1_looks.cls ≠ "java/lang/invoke/MethodHandle" ∧ yX1_looks.cls ≠ "java/lang/invoke/VarHandle" ∧ (parseMethodDescriptor yX1_looks.desc).map (fun d => d.parameters.length) = some 1 := by decide +kernel
theorem hd_X1_looks : yX1_looks.cls = RX1 ∧ yX1_looks.cls ≠ "java/lang/invoke/MethodHandle" ∧ yX1_looks.cls ≠ "java/lang/invoke/VarHandle" ∧ (parseMethodDescriptor yX1_looks.desc).map (fun d => d.parameters.length) = some 1 := by decide +kernel
set_option maxHeartbeats 4000000 in
theorem met_X1_looks (l : Launch) (htr : l.stackTraces = false) (G : GP) (d : Nat) {post : HS → Prop} {y0 : HS} {a0 : Nat} {i1 : Int32} (hw : wp_X1_looks G post y0 a0 i1) : vx_Met l yX1_looks (ws_ yX1_looks cX1_looks 2 none) (rmB (d + 61) 0) (hPc G y0 [va_rf (some a0), .int (i1)]) (hQv G y0 post) (hX G y0 (fun _ _ _ => False)) 0 (20 * 0) (HA y0) := by
  unfold wp_X1_looks at hw
  refine hv_met (own := RX1) (by decide) rfl (Nat.le_of_ble_eq_true rfl) ?_
  intro p e s m args below meth c ls E hr hlocks hnm hE hK hI hl
  replace hl : lv_has ls 2 [(0, va_rf (some a0)), (1, .int (i1))] := hl
  refine hv_aload_n (r := some a0) E.1 E.2.1 dX1_looks_0 rfl (lv_at hl 0 rfl) ?_
  obtain ⟨f1, ⟨fs, hfs, hfk⟩, hw⟩ := hw
  refine hv_get (v := va_rf f1) E hK hI ciX1 6 (Nat.le_of_ble_eq_true rfl) q1426 (fun _ h => h) (Or.inl hfs) hfk dX1_looks_1 ?_
  refine hv_aload_n (r := some a0) E.1 E.2.1 dX1_looks_4 rfl (lv_at hl 0 rfl) ?_
  obtain ⟨f2, ⟨fs, hfs, hfk⟩, hw⟩ := hw
  refine hv_get (v := va_rf f2) E hK hI ciX1 4 (Nat.le_of_ble_eq_true rfl) q1424 (fun _ h => h) (Or.inl hfs) hfk dX1_looks_5 ?_
  refine hv_aload_n (r := some a0) E.1 E.2.1 dX1_looks_8 rfl (lv_at hl 0 rfl) ?_
  obtain ⟨f3, ⟨fs, hfs, hfk⟩, hw⟩ := hw
  refine hv_get (v := va_rf f3) E hK hI ciX1 3 (Nat.le_of_ble_eq_true rfl) q1423 (fun _ h => h) (Or.inl hfs) hfk dX1_looks_9 ?_
  refine lv_iload_n E.1 E.2.1 dX1_looks_12 rfl (lv_at hl 1 rfl) ?_
  obtain ⟨a4, ea4, hw⟩ := hw
  revert hl hw; subst ea4; intro hl hw
  obtain ⟨⟨fs7, hrv⟩, hw⟩ := hw
  have hq := hw
  clear hw
  refine hv_callq (u := 0) (B1 := 0) hI (vx_runV (As := [.int (i1)]) (rest := [va_rf f2, va_rf f1]) E (met_J2_get l G (d + 58) hq) (cwV 1 E.2.2.2.2 (lw_V q1495 q785 q786 q124 q787) rfl rfl rfl hd_J2_get (rm_ok (by omega) (by decide))) (hv_preV hK hI hrv rfl) rfl rfl hl.1 rfl (lv_room (by first | rfl | decide | (simp [va_rf_cat, int_cat, long_cat]; done) | (simp [va_rf_cat, int_cat, long_cat]; decide))) dX1_looks_13 (hv_fit (by first | exact (Nat.le_refl 0) | omega))) (fun _ _ _ _ _ h => h.elim) (fun r6 y5 H locs hw hI => ?_)
  obtain ⟨hof, hw⟩ := hw
  refine hv_castC (cn := 17) E hK hI (by decide) q1454 hof dX1_looks_16 ?_
  obtain ⟨a8, ea8, hw⟩ := hw
  revert hl hw; subst ea8; intro hl hw
  obtain ⟨⟨fs10, hrv⟩, hw⟩ := hw
  have hq := hw
  clear hw
  refine hv_callv (u := 0) (B1 := 0) hI (vx_runV (As := [va_rf f2, va_rf r6]) (rest := []) E (met_X4_looks l G (d) hq) (cwV 2 E.2.2.2.2 (lw_V q1615 q1616 q1617 q127 q1618) rfl rfl rfl hd_X4_looks (rm_ok (by omega) (by decide))) (hv_preV hK hI hrv rfl) rfl rfl hl.1 rfl (lv_room (by first | rfl | decide | (simp [va_rf_cat, int_cat, long_cat]; done) | (simp [va_rf_cat, int_cat, long_cat]; decide))) dX1_looks_19 (hv_fit (by first | exact (Nat.le_refl 0) | omega))) (fun _ _ _ _ _ h => h.elim) (fun y9 H locs hw hI => ?_)
  exact hv_vret E hr hlocks hI (Nat.le_refl 0) hw dX1_looks_22
/-- CaseGrouper.of(II)I -/
def wp_X1_of (G : GP) (post : Int32 → HS → Prop) (y0 : HS) (a0 : Nat) (i1 : Int32) (i2 : Int32) : Prop := (∃ fs3, rd G y0 a0 (ob 0 fs3)) ∧ wp_X1_isStay G (fun b2 y1 => (b2 = true → ∃ f5, fR y1 a0 0 3 f5 ∧ ∃ a6, f5 = some a6 ∧ (∃ fs9, rd G y1 a6 (ob 18 fs9)) ∧ wp_J2_get G (fun r8 y7 => isOf G y7 r8 17 ∧ (∃ fs11, rd G y7 a0 (ob 0 fs11)) ∧ wp_X1_looks G (fun y10 => (i2 = nI 0 → ∃ a13, r8 = some a13 ∧ ∃ f14, fI y10 a13 17 0 f14 ∧ post f14 y10) ∧ (¬ i2 = nI 0 → (i2 = nI 1 → ∃ a16, r8 = some a16 ∧ ∃ f17, fI y10 a16 17 1 f17 ∧ post f17 y10) ∧ (¬ i2 = nI 1 → (i2 = nI 2 → ∃ a19, r8 = some a19 ∧ ∃ f20, fI y10 a19 17 2 f20 ∧ post f20 y10) ∧ (¬ i2 = nI 2 → (i2 = nI 3 → ∃ a22, r8 = some a22 ∧ ∃ f23, fR y10 a22 17 3 f23 ∧ ∃ a24, f23 = some a24 ∧ (∃ fs27, rd G y10 a24 (ob 18 fs27)) ∧ wp_J2_size G (fun x26 y25 => post x26 y25) y10 a24) ∧ (¬ i2 = nI 3 → (i2 = nI 4 → ∃ a29, r8 = some a29 ∧ ∃ f30, fR y10 a29 17 4 f30 ∧ ∃ a31, f30 = some a31 ∧ (∃ fs34, rd G y10 a31 (ob 18 fs34)) ∧ wp_J2_size G (fun x33 y32 => post x33 y32) y10 a31) ∧ (¬ i2 = nI 4 → (i2 = nI 5 → ∃ f36, fR y10 a0 0 6 f36 ∧ ∃ a37, f36 = some a37 ∧ ∃ f38, fI y10 a37 2 2 f38 ∧ post f38 y10) ∧ (¬ i2 = nI 5 → (i2 = nI 6 → ∃ f40, fR y10 a0 0 6 f40 ∧ ∃ a41, f40 = some a41 ∧ ∃ f42, fI y10 a41 2 3 f42 ∧ post f42 y10) ∧ (¬ i2 = nI 6 → (i2 = nI 7 → ∃ f44, fR y10 a0 0 6 f44 ∧ ∃ a45, f44 = some a45 ∧ ∃ f46, fI y10 a45 2 4 f46 ∧ post f46 y10) ∧ (¬ i2 = nI 7 → (i2 = nI 8 → ∃ f48, fR y10 a0 0 6 f48 ∧ ∃ a49, f48 = some a49 ∧ (∃ fs52, rd G y10 a49 (ob 2 fs52)) ∧ wp_X4_cls G (fun x51 y50 => post x51 y50) y10 a49) ∧ (¬ i2 = nI 8 → (i2 = nI 9 → ∃ f54, fR y10 a0 0 6 f54 ∧ ∃ a55, f54 = some a55 ∧ (∃ fs58, rd G y10 a55 (ob 2 fs58)) ∧ wp_X4_weight G (fun x57 y56 => post x57 y56) y10 a55) ∧ (¬ i2 = nI 9 → (i2 = nI 10 → ∃ f60, fR y10 a0 0 6 f60 ∧ ∃ a61, f60 = some a61 ∧ ∃ f62, fI y10 a61 2 6 f62 ∧ post f62 y10) ∧ (¬ i2 = nI 10 → (i2 = nI 11 → ∃ f64, fR y10 a0 0 4 f64 ∧ ∃ a65, f64 = some a65 ∧ ∃ f66, fR y10 a65 1 3 f66 ∧ ∃ f67, fR y10 a0 0 6 f67 ∧ ∃ a68, f67 = some a68 ∧ ∃ f69, fR y10 a68 2 5 f69 ∧ ∃ a70, f66 = some a70 ∧ (∃ fs73, rd G y10 a70 (ob 18 fs73)) ∧ wp_J2_indexOf G (fun x72 y71 => post x72 y71) y10 a70 f69) ∧ (¬ i2 = nI 11 → post ((-2)) y10))))))))))))) y7 a0 i1) y1 a6 i1) ∧ (b2 = false → post ((-2)) y1)) y0 a0 i1
theorem hs_X1_of : yX1_of.cls ≠ "java/lang/invoke/MethodHandle" ∧ yX1_of.cls ≠ "java/lang/invoke/VarHandle" ∧ (parseMethodDescriptor yX1_of.desc).map (fun d => d.parameters.length) = some 2 := by decide +kernel
theorem hd_X1_of : yX1_of.cls = RX1 ∧ yX1_of.cls ≠ "java/lang/invoke/MethodHandle" ∧ yX1_of.cls ≠ "java/lang/invoke/VarHandle" ∧ (parseMethodDescriptor yX1_of.desc).map (fun d => d.parameters.length) = some 2 := by decide +kernel
set_option maxHeartbeats 4000000 in
theorem met_X1_of (l : Launch) (htr : l.stackTraces = false) (G : GP) (d : Nat) {post : Int32 → HS → Prop} {y0 : HS} {a0 : Nat} {i1 : Int32} {i2 : Int32} (hw : wp_X1_of G post y0 a0 i1 i2) : vx_Met l yX1_of (ws_ yX1_of cX1_of 4 (some .int)) (rmB (d + 62) 0) (hPc G y0 [va_rf (some a0), .int (i1), .int (i2)]) (hQi G y0 post) (hX G y0 (fun _ _ _ => False)) 0 (20 * 0) (HA y0) := by
  unfold wp_X1_of at hw
  refine hv_met (own := RX1) (by decide) rfl (Nat.le_of_ble_eq_true rfl) ?_
  intro p e s m args below meth c ls E hr hlocks hnm hE hK hI hl
  replace hl : lv_has ls 4 [(0, va_rf (some a0)), (1, .int (i1)), (2, .int (i2))] := hl
  refine hv_aload_n (r := some a0) E.1 E.2.1 dX1_of_0 rfl (lv_at hl 0 rfl) ?_
  refine lv_iload_n E.1 E.2.1 dX1_of_1 rfl (lv_at hl 1 rfl) ?_
  obtain ⟨⟨fs3, hrv⟩, hw⟩ := hw
  have hq := hw
  clear hw
  refine hv_callz (u := 0) (B1 := 0) hI (vx_runV (As := [.int (i1)]) (rest := []) E (met_X1_isStay l htr G (d + 60) hq) (cwV 1 E.2.2.2.2 (lw_V q1491 q1493 qs44 q121 q1494) rfl rfl rfl hd_X1_isStay (rm_ok (by omega) (by decide))) (hv_preV hK hI hrv rfl) rfl rfl hl.1 rfl (lv_room (by first | rfl | decide | (simp [va_rf_cat, int_cat, long_cat]; done) | (simp [va_rf_cat, int_cat, long_cat]; decide))) dX1_of_2 (hv_fit (by first | exact (Nat.le_refl 0) | omega))) (fun _ _ _ _ _ h => h.elim) (fun b2 y1 H locs hw hI => ?_)
  refine lv_if_ne (tgt := 11) E.1 E.2.1 dX1_of_5 (by decide) (fun c4 => ?_) (fun c4 => ?_)
  · replace hw := hw.1 (bi_n c4)
    refine hv_aload_n (r := some a0) E.1 E.2.1 dX1_of_11 rfl (lv_at hl 0 rfl) ?_
    obtain ⟨f5, ⟨fs, hfs, hfk⟩, hw⟩ := hw
    refine hv_get (v := va_rf f5) E hK hI ciX1 3 (Nat.le_of_ble_eq_true rfl) q1423 (fun _ h => h) (Or.inl hfs) hfk dX1_of_12 ?_
    refine lv_iload_n E.1 E.2.1 dX1_of_15 rfl (lv_at hl 1 rfl) ?_
    obtain ⟨a6, ea6, hw⟩ := hw
    revert hl hw; subst ea6; intro hl hw
    obtain ⟨⟨fs9, hrv⟩, hw⟩ := hw
    have hq := hw
    clear hw
    refine hv_callq (u := 0) (B1 := 0) hI (vx_runV (As := [.int (i1)]) (rest := []) E (met_J2_get l G (d + 59) hq) (cwV 1 E.2.2.2.2 (lw_V q1495 q785 q786 q124 q787) rfl rfl rfl hd_J2_get (rm_ok (by omega) (by decide))) (hv_preV hK hI hrv rfl) rfl rfl hl.1 rfl (lv_room (by first | rfl | decide | (simp [va_rf_cat, int_cat, long_cat]; done) | (simp [va_rf_cat, int_cat, long_cat]; decide))) dX1_of_16 (hv_fit (by first | exact (Nat.le_refl 0) | omega))) (fun _ _ _ _ _ h => h.elim) (fun r8 y7 H locs hw hI => ?_)
    obtain ⟨hof, hw⟩ := hw
    refine hv_castC (cn := 17) E hK hI (by decide) q1454 hof dX1_of_19 ?_
    refine hv_astore_n (r := r8) (lv' := [(3, va_rf r8), (0, va_rf (some a0)), (1, .int (i1)), (2, .int (i2))]) E.1 E.2.1 dX1_of_22 rfl hl (Nat.le_of_ble_eq_true rfl) (by first | rfl | decide | (simp [va_rf_cat, int_cat, long_cat]; done) | (simp [va_rf_cat, int_cat, long_cat]; decide)) (fun ls hl => ?_)
    refine hv_aload_n (r := some a0) E.1 E.2.1 dX1_of_23 rfl (lv_at hl 1 rfl) ?_
    refine lv_iload_n E.1 E.2.1 dX1_of_24 rfl (lv_at hl 2 rfl) ?_
    obtain ⟨⟨fs11, hrv⟩, hw⟩ := hw
    have hq := hw
    clear hw
    refine hv_callv (u := 0) (B1 := 0) hI (vx_runV (As := [.int (i1)]) (rest := []) E (met_X1_looks l htr G (d) hq) (cwV 1 E.2.2.2.2 (lw_V q1611 q1613 qs47 q121 q1614) rfl rfl rfl hd_X1_looks (rm_ok (by omega) (by decide))) (hv_preV hK hI hrv rfl) rfl rfl hl.1 rfl (lv_room (by first | rfl | decide | (simp [va_rf_cat, int_cat, long_cat]; done) | (simp [va_rf_cat, int_cat, long_cat]; decide))) dX1_of_25 (hv_fit (by first | exact (Nat.le_refl 0) | omega))) (fun _ _ _ _ _ h => h.elim) (fun y10 H locs hw hI => ?_)
    refine lv_iload_n E.1 E.2.1 dX1_of_28 rfl (lv_at hl 3 rfl) ?_
    by_cases c12 : i2 = nI 0
    · replace hw := hw.1 c12
      have hti : i2.toInt = 0 := by rw [c12]; decide
      refine lv_tableIn (tgt := 92) (off := 63) E.1 E.2.1 dX1_of_29 (by rw [hti]; decide) (by rw [hti]; decide) (by rw [hti]; rfl) (by decide) ?_
      refine hv_aload_n (r := r8) E.1 E.2.1 dX1_of_92 rfl (lv_at hl 0 rfl) ?_
      obtain ⟨a13, ea13, hw⟩ := hw
      revert hl hw; subst ea13; intro hl hw
      obtain ⟨f14, ⟨fs, hfs, hfk⟩, hw⟩ := hw
      refine hv_getN (v := .int f14) E hK hI ciX19 0 (Nat.le_of_ble_eq_true rfl) q1464 (fun _ h => h) (Or.inl hfs) hfk dX1_of_93 ?_
      exact hv_ireti E hr hlocks hI (Nat.le_refl 0) hw dX1_of_96
    replace hw := hw.2 c12
    by_cases c15 : i2 = nI 1
    · replace hw := hw.1 c15
      have hti : i2.toInt = 1 := by rw [c15]; decide
      refine lv_tableIn (tgt := 97) (off := 68) E.1 E.2.1 dX1_of_29 (by rw [hti]; decide) (by rw [hti]; decide) (by rw [hti]; rfl) (by decide) ?_
      refine hv_aload_n (r := r8) E.1 E.2.1 dX1_of_97 rfl (lv_at hl 0 rfl) ?_
      obtain ⟨a16, ea16, hw⟩ := hw
      revert hl hw; subst ea16; intro hl hw
      obtain ⟨f17, ⟨fs, hfs, hfk⟩, hw⟩ := hw
      refine hv_getN (v := .int f17) E hK hI ciX19 1 (Nat.le_of_ble_eq_true rfl) q1466 (fun _ h => h) (Or.inl hfs) hfk dX1_of_98 ?_
      exact hv_ireti E hr hlocks hI (Nat.le_refl 0) hw dX1_of_101
    replace hw := hw.2 c15
    by_cases c18 : i2 = nI 2
    · replace hw := hw.1 c18
      have hti : i2.toInt = 2 := by rw [c18]; decide
      refine lv_tableIn (tgt := 102) (off := 73) E.1 E.2.1 dX1_of_29 (by rw [hti]; decide) (by rw [hti]; decide) (by rw [hti]; rfl) (by decide) ?_
      refine hv_aload_n (r := r8) E.1 E.2.1 dX1_of_102 rfl (lv_at hl 0 rfl) ?_
      obtain ⟨a19, ea19, hw⟩ := hw
      revert hl hw; subst ea19; intro hl hw
      obtain ⟨f20, ⟨fs, hfs, hfk⟩, hw⟩ := hw
      refine hv_getN (v := .int f20) E hK hI ciX19 2 (Nat.le_of_ble_eq_true rfl) q1468 (fun _ h => h) (Or.inl hfs) hfk dX1_of_103 ?_
      exact hv_ireti E hr hlocks hI (Nat.le_refl 0) hw dX1_of_106
    replace hw := hw.2 c18
    by_cases c21 : i2 = nI 3
    · replace hw := hw.1 c21
      have hti : i2.toInt = 3 := by rw [c21]; decide
      refine lv_tableIn (tgt := 107) (off := 78) E.1 E.2.1 dX1_of_29 (by rw [hti]; decide) (by rw [hti]; decide) (by rw [hti]; rfl) (by decide) ?_
      refine hv_aload_n (r := r8) E.1 E.2.1 dX1_of_107 rfl (lv_at hl 0 rfl) ?_
      obtain ⟨a22, ea22, hw⟩ := hw
      revert hl hw; subst ea22; intro hl hw
      obtain ⟨f23, ⟨fs, hfs, hfk⟩, hw⟩ := hw
      refine hv_getN (v := va_rf f23) E hK hI ciX19 3 (Nat.le_of_ble_eq_true rfl) q1471 (fun _ h => h) (Or.inl hfs) hfk dX1_of_108 ?_
      obtain ⟨a24, ea24, hw⟩ := hw
      revert hl hw; subst ea24; intro hl hw
      obtain ⟨⟨fs27, hrv⟩, hw⟩ := hw
      have hq := hw
      clear hw
      refine hv_calli (u := 0) (B1 := 0) hI (vx_runV (As := []) (rest := []) E (met_J2_size l G (d + 61) hq) (cwV 0 E.2.2.2.2 (lw_V q1453 q752 q753 q124 q754) rfl rfl rfl hd_J2_size (rm_ok (by omega) (by decide))) (hv_preV hK hI hrv rfl) rfl rfl hl.1 rfl (lv_room (by first | rfl | decide | (simp [va_rf_cat, int_cat, long_cat]; done) | (simp [va_rf_cat, int_cat, long_cat]; decide))) dX1_of_111 (hv_fit (by first | exact (Nat.le_refl 0) | omega))) (fun _ _ _ _ _ h => h.elim) (fun x26 y25 H locs hw hI => ?_)
      exact hv_ireti E hr hlocks hI (Nat.le_refl 0) hw dX1_of_114
    replace hw := hw.2 c21
    by_cases c28 : i2 = nI 4
    · replace hw := hw.1 c28
      have hti : i2.toInt = 4 := by rw [c28]; decide
      refine lv_tableIn (tgt := 115) (off := 86) E.1 E.2.1 dX1_of_29 (by rw [hti]; decide) (by rw [hti]; decide) (by rw [hti]; rfl) (by decide) ?_
      refine hv_aload_n (r := r8) E.1 E.2.1 dX1_of_115 rfl (lv_at hl 0 rfl) ?_
      obtain ⟨a29, ea29, hw⟩ := hw
      revert hl hw; subst ea29; intro hl hw
      obtain ⟨f30, ⟨fs, hfs, hfk⟩, hw⟩ := hw
      refine hv_getN (v := va_rf f30) E hK hI ciX19 4 (Nat.le_of_ble_eq_true rfl) q1474 (fun _ h => h) (Or.inl hfs) hfk dX1_of_116 ?_
      obtain ⟨a31, ea31, hw⟩ := hw
      revert hl hw; subst ea31; intro hl hw
      obtain ⟨⟨fs34, hrv⟩, hw⟩ := hw
      have hq := hw
      clear hw
      refine hv_calli (u := 0) (B1 := 0) hI (vx_runV (As := []) (rest := []) E (met_J2_size l G (d + 61) hq) (cwV 0 E.2.2.2.2 (lw_V q1453 q752 q753 q124 q754) rfl rfl rfl hd_J2_size (rm_ok (by omega) (by decide))) (hv_preV hK hI hrv rfl) rfl rfl hl.1 rfl (lv_room (by first | rfl | decide | (simp [va_rf_cat, int_cat, long_cat]; done) | (simp [va_rf_cat, int_cat, long_cat]; decide))) dX1_of_119 (hv_fit (by first | exact (Nat.le_refl 0) | omega))) (fun _ _ _ _ _ h => h.elim) (fun x33 y32 H locs hw hI => ?_)
      exact hv_ireti E hr hlocks hI (Nat.le_refl 0) hw dX1_of_122
    replace hw := hw.2 c28
    by_cases c35 : i2 = nI 5
    · replace hw := hw.1 c35
      have hti : i2.toInt = 5 := by rw [c35]; decide
      refine lv_tableIn (tgt := 123) (off := 94) E.1 E.2.1 dX1_of_29 (by rw [hti]; decide) (by rw [hti]; decide) (by rw [hti]; rfl) (by decide) ?_
      refine hv_aload_n (r := some a0) E.1 E.2.1 dX1_of_123 rfl (lv_at hl 1 rfl) ?_
      obtain ⟨f36, ⟨fs, hfs, hfk⟩, hw⟩ := hw
      refine hv_get (v := va_rf f36) E hK hI ciX1 6 (Nat.le_of_ble_eq_true rfl) q1426 (fun _ h => h) (Or.inl hfs) hfk dX1_of_124 ?_
      obtain ⟨a37, ea37, hw⟩ := hw
      revert hl hw; subst ea37; intro hl hw
      obtain ⟨f38, ⟨fs, hfs, hfk⟩, hw⟩ := hw
      refine hv_getN (v := .int f38) E hK hI ciX4 2 (Nat.le_of_ble_eq_true rfl) q1391 (fun _ h => h) (Or.inl hfs) hfk dX1_of_127 ?_
      exact hv_ireti E hr hlocks hI (Nat.le_refl 0) hw dX1_of_130
    replace hw := hw.2 c35
    by_cases c39 : i2 = nI 6
    · replace hw := hw.1 c39
      have hti : i2.toInt = 6 := by rw [c39]; decide
      refine lv_tableIn (tgt := 131) (off := 102) E.1 E.2.1 dX1_of_29 (by rw [hti]; decide) (by rw [hti]; decide) (by rw [hti]; rfl) (by decide) ?_
      refine hv_aload_n (r := some a0) E.1 E.2.1 dX1_of_131 rfl (lv_at hl 1 rfl) ?_
      obtain ⟨f40, ⟨fs, hfs, hfk⟩, hw⟩ := hw
      refine hv_get (v := va_rf f40) E hK hI ciX1 6 (Nat.le_of_ble_eq_true rfl) q1426 (fun _ h => h) (Or.inl hfs) hfk dX1_of_132 ?_
      obtain ⟨a41, ea41, hw⟩ := hw
      revert hl hw; subst ea41; intro hl hw
      obtain ⟨f42, ⟨fs, hfs, hfk⟩, hw⟩ := hw
      refine hv_getN (v := .int f42) E hK hI ciX4 3 (Nat.le_of_ble_eq_true rfl) q1393 (fun _ h => h) (Or.inl hfs) hfk dX1_of_135 ?_
      exact hv_ireti E hr hlocks hI (Nat.le_refl 0) hw dX1_of_138
    replace hw := hw.2 c39
    by_cases c43 : i2 = nI 7
    · replace hw := hw.1 c43
      have hti : i2.toInt = 7 := by rw [c43]; decide
      refine lv_tableIn (tgt := 139) (off := 110) E.1 E.2.1 dX1_of_29 (by rw [hti]; decide) (by rw [hti]; decide) (by rw [hti]; rfl) (by decide) ?_
      refine hv_aload_n (r := some a0) E.1 E.2.1 dX1_of_139 rfl (lv_at hl 1 rfl) ?_
      obtain ⟨f44, ⟨fs, hfs, hfk⟩, hw⟩ := hw
      refine hv_get (v := va_rf f44) E hK hI ciX1 6 (Nat.le_of_ble_eq_true rfl) q1426 (fun _ h => h) (Or.inl hfs) hfk dX1_of_140 ?_
      obtain ⟨a45, ea45, hw⟩ := hw
      revert hl hw; subst ea45; intro hl hw
      obtain ⟨f46, ⟨fs, hfs, hfk⟩, hw⟩ := hw
      refine hv_getN (v := .int f46) E hK hI ciX4 4 (Nat.le_of_ble_eq_true rfl) q1395 (fun _ h => h) (Or.inl hfs) hfk dX1_of_143 ?_
      exact hv_ireti E hr hlocks hI (Nat.le_refl 0) hw dX1_of_146
    replace hw := hw.2 c43
    by_cases c47 : i2 = nI 8
    · replace hw := hw.1 c47
      have hti : i2.toInt = 8 := by rw [c47]; decide
      refine lv_tableIn (tgt := 147) (off := 118) E.1 E.2.1 dX1_of_29 (by rw [hti]; decide) (by rw [hti]; decide) (by rw [hti]; rfl) (by decide) ?_
      refine hv_aload_n (r := some a0) E.1 E.2.1 dX1_of_147 rfl (lv_at hl 1 rfl) ?_
      obtain ⟨f48, ⟨fs, hfs, hfk⟩, hw⟩ := hw
      refine hv_get (v := va_rf f48) E hK hI ciX1 6 (Nat.le_of_ble_eq_true rfl) q1426 (fun _ h => h) (Or.inl hfs) hfk dX1_of_148 ?_
      obtain ⟨a49, ea49, hw⟩ := hw
      revert hl hw; subst ea49; intro hl hw
      obtain ⟨⟨fs52, hrv⟩, hw⟩ := hw
      have hq := hw
      clear hw
      refine hv_calli (u := 0) (B1 := 0) hI (vx_runV (As := []) (rest := []) E (met_X4_cls l G (d + 61) hq) (cwV 0 E.2.2.2.2 (lw_V q1655 q1656 q1657 q127 q1658) rfl rfl rfl hd_X4_cls (rm_ok (by omega) (by decide))) (hv_preV hK hI hrv rfl) rfl rfl hl.1 rfl (lv_room (by first | rfl | decide | (simp [va_rf_cat, int_cat, long_cat]; done) | (simp [va_rf_cat, int_cat, long_cat]; decide))) dX1_of_151 (hv_fit (by first | exact (Nat.le_refl 0) | omega))) (fun _ _ _ _ _ h => h.elim) (fun x51 y50 H locs hw hI => ?_)
      exact hv_ireti E hr hlocks hI (Nat.le_refl 0) hw dX1_of_154
    replace hw := hw.2 c47
    by_cases c53 : i2 = nI 9
    · replace hw := hw.1 c53
      have hti : i2.toInt = 9 := by rw [c53]; decide
      refine lv_tableIn (tgt := 155) (off := 126) E.1 E.2.1 dX1_of_29 (by rw [hti]; decide) (by rw [hti]; decide) (by rw [hti]; rfl) (by decide) ?_
      refine hv_aload_n (r := some a0) E.1 E.2.1 dX1_of_155 rfl (lv_at hl 1 rfl) ?_
      obtain ⟨f54, ⟨fs, hfs, hfk⟩, hw⟩ := hw
      refine hv_get (v := va_rf f54) E hK hI ciX1 6 (Nat.le_of_ble_eq_true rfl) q1426 (fun _ h => h) (Or.inl hfs) hfk dX1_of_156 ?_
      obtain ⟨a55, ea55, hw⟩ := hw
      revert hl hw; subst ea55; intro hl hw
      obtain ⟨⟨fs58, hrv⟩, hw⟩ := hw
      have hq := hw
      clear hw
      refine hv_calli (u := 0) (B1 := 0) hI (vx_runV (As := []) (rest := []) E (met_X4_weight l G (d + 61) hq) (cwV 0 E.2.2.2.2 (lw_V q1659 q1660 q1661 q127 q1662) rfl rfl rfl hd_X4_weight (rm_ok (by omega) (by decide))) (hv_preV hK hI hrv rfl) rfl rfl hl.1 rfl (lv_room (by first | rfl | decide | (simp [va_rf_cat, int_cat, long_cat]; done) | (simp [va_rf_cat, int_cat, long_cat]; decide))) dX1_of_159 (hv_fit (by first | exact (Nat.le_refl 0) | omega))) (fun _ _ _ _ _ h => h.elim) (fun x57 y56 H locs hw hI => ?_)
      exact hv_ireti E hr hlocks hI (Nat.le_refl 0) hw dX1_of_162
    replace hw := hw.2 c53
    by_cases c59 : i2 = nI 10
    · replace hw := hw.1 c59
      have hti : i2.toInt = 10 := by rw [c59]; decide
      refine lv_tableIn (tgt := 163) (off := 134) E.1 E.2.1 dX1_of_29 (by rw [hti]; decide) (by rw [hti]; decide) (by rw [hti]; rfl) (by decide) ?_
      refine hv_aload_n (r := some a0) E.1 E.2.1 dX1_of_163 rfl (lv_at hl 1 rfl) ?_
      obtain ⟨f60, ⟨fs, hfs, hfk⟩, hw⟩ := hw
      refine hv_get (v := va_rf f60) E hK hI ciX1 6 (Nat.le_of_ble_eq_true rfl) q1426 (fun _ h => h) (Or.inl hfs) hfk dX1_of_164 ?_
      obtain ⟨a61, ea61, hw⟩ := hw
      revert hl hw; subst ea61; intro hl hw
      obtain ⟨f62, ⟨fs, hfs, hfk⟩, hw⟩ := hw
      refine hv_getN (v := .int f62) E hK hI ciX4 6 (Nat.le_of_ble_eq_true rfl) q1399 (fun _ h => h) (Or.inl hfs) hfk dX1_of_167 ?_
      exact hv_ireti E hr hlocks hI (Nat.le_refl 0) hw dX1_of_170
    replace hw := hw.2 c59
    by_cases c63 : i2 = nI 11
    · replace hw := hw.1 c63
      have hti : i2.toInt = 11 := by rw [c63]; decide
      refine lv_tableIn (tgt := 171) (off := 142) E.1 E.2.1 dX1_of_29 (by rw [hti]; decide) (by rw [hti]; decide) (by rw [hti]; rfl) (by decide) ?_
      refine hv_aload_n (r := some a0) E.1 E.2.1 dX1_of_171 rfl (lv_at hl 1 rfl) ?_
      obtain ⟨f64, ⟨fs, hfs, hfk⟩, hw⟩ := hw
      refine hv_get (v := va_rf f64) E hK hI ciX1 4 (Nat.le_of_ble_eq_true rfl) q1424 (fun _ h => h) (Or.inl hfs) hfk dX1_of_172 ?_
      obtain ⟨a65, ea65, hw⟩ := hw
      revert hl hw; subst ea65; intro hl hw
      obtain ⟨f66, ⟨fs, hfs, hfk⟩, hw⟩ := hw
      refine hv_getN (v := va_rf f66) E hK hI ciX2 3 (Nat.le_of_ble_eq_true rfl) q243 (fun _ h => h) (Or.inl hfs) hfk dX1_of_175 ?_
      refine hv_aload_n (r := some a0) E.1 E.2.1 dX1_of_178 rfl (lv_at hl 1 rfl) ?_
      obtain ⟨f67, ⟨fs, hfs, hfk⟩, hw⟩ := hw
      refine hv_get (v := va_rf f67) E hK hI ciX1 6 (Nat.le_of_ble_eq_true rfl) q1426 (fun _ h => h) (Or.inl hfs) hfk dX1_of_179 ?_
      obtain ⟨a68, ea68, hw⟩ := hw
      revert hl hw; subst ea68; intro hl hw
      obtain ⟨f69, ⟨fs, hfs, hfk⟩, hw⟩ := hw
      refine hv_getN (v := va_rf f69) E hK hI ciX4 5 (Nat.le_of_ble_eq_true rfl) q1397 (fun _ h => h) (Or.inl hfs) hfk dX1_of_182 ?_
      obtain ⟨a70, ea70, hw⟩ := hw
      revert hl hw; subst ea70; intro hl hw
      obtain ⟨⟨fs73, hrv⟩, hw⟩ := hw
      have hq := hw
      clear hw
      refine hv_calli (u := 0) (B1 := 0) hI (vx_runV (As := [va_rf f69]) (rest := []) E (met_J2_indexOf l G (d + 58) hq) (cwV 1 E.2.2.2.2 (lw_V q1663 q1514 q1515 q124 q1516) rfl rfl rfl hd_J2_indexOf (rm_ok (by omega) (by decide))) (hv_preV hK hI hrv rfl) rfl rfl hl.1 rfl (lv_room (by first | rfl | decide | (simp [va_rf_cat, int_cat, long_cat]; done) | (simp [va_rf_cat, int_cat, long_cat]; decide))) dX1_of_185 (hv_fit (by first | exact (Nat.le_refl 0) | omega))) (fun _ _ _ _ _ h => h.elim) (fun x72 y71 H locs hw hI => ?_)
      exact hv_ireti E hr hlocks hI (Nat.le_refl 0) hw dX1_of_188
    replace hw := hw.2 c63
    refine lv_tableOut (tgt := 189) E.1 E.2.1 dX1_of_29 (tab_out (fun j h1 h2 h3 => ?_)) (by decide) ?_
    · have hj : j = 0 ∨ j = 1 ∨ j = 2 ∨ j = 3 ∨ j = 4 ∨ j = 5 ∨ j = 6 ∨ j = 7 ∨ j = 8 ∨ j = 9 ∨ j = 10 ∨ j = 11 := by omega
      rcases hj with rfl | rfl | rfl | rfl | rfl | rfl | rfl | rfl | rfl | rfl | rfl | rfl
      · exact c12 (Int32.toInt_inj.mp (by rw [h3]; decide))
      · exact c15 (Int32.toInt_inj.mp (by rw [h3]; decide))
      · exact c18 (Int32.toInt_inj.mp (by rw [h3]; decide))
      · exact c21 (Int32.toInt_inj.mp (by rw [h3]; decide))
      · exact c28 (Int32.toInt_inj.mp (by rw [h3]; decide))
      · exact c35 (Int32.toInt_inj.mp (by rw [h3]; decide))
      · exact c39 (Int32.toInt_inj.mp (by rw [h3]; decide))
      · exact c43 (Int32.toInt_inj.mp (by rw [h3]; decide))
      · exact c47 (Int32.toInt_inj.mp (by rw [h3]; decide))
      · exact c53 (Int32.toInt_inj.mp (by rw [h3]; decide))
      · exact c59 (Int32.toInt_inj.mp (by rw [h3]; decide))
      · exact c63 (Int32.toInt_inj.mp (by rw [h3]; decide))
    · skip
      refine lv_bipush (v := (-2)) E.1 E.2.1 dX1_of_189 rfl ?_
      exact hv_ireti E hr hlocks hI (Nat.le_refl 0) hw dX1_of_191
  · replace hw := hw.2 (bi_z c4)
    refine lv_bipush (v := (-2)) E.1 E.2.1 dX1_of_8 rfl ?_
    exact hv_ireti E hr hlocks hI (Nat.le_refl 0) hw dX1_of_10
/-- CaseGrouper.way(II)I -/
def wp_X1_way (G : GP) (post : Int32 → HS → Prop) (y0 : HS) (a0 : Nat) (i1 : Int32) (i2 : Int32) : Prop := (∃ fs3, rd G y0 a0 (ob 0 fs3)) ∧ wp_X1_isStay G (fun b2 y1 => (b2 = true → (∃ fs6, rd G y1 a0 (ob 0 fs6)) ∧ wp_X1_looks G (fun y5 => ∃ f7, fR y5 a0 0 6 f7 ∧ ∃ a8, f7 = some a8 ∧ ∃ f9, fI y5 a8 2 6 f9 ∧ wp_X1_within G (fun b11 y10 => (b11 = false → post ((-1)) y10) ∧ (b11 = true → ∃ f13, fR y10 a0 0 6 f13 ∧ ∃ a14, f13 = some a14 ∧ ∃ f15, fL y10 a14 2 7 f15 ∧ post (((f15 >>> (i2.toInt64 &&& 63)) &&& 1).toInt32) y10)) y5 i2 (nI 0) (f9 - (nI 1))) y1 a0 i1) ∧ (b2 = false → post ((-1)) y1)) y0 a0 i1
theorem hs_X1_way : yX1_way.cls ≠ "java/lang/invoke/MethodHandle" ∧ yX1_way.cls ≠ "java/lang/invoke/VarHandle" ∧ (parseMethodDescriptor yX1_way.desc).map (fun d => d.parameters.length) = some 2 := by decide +kernel
theorem hd_X1_way : yX1_way.cls = RX1 ∧ yX1_way.cls ≠ "java/lang/invoke/MethodHandle" ∧ yX1_way.cls ≠ "java/lang/invoke/VarHandle" ∧ (parseMethodDescriptor yX1_way.desc).map (fun d => d.parameters.length) = some 2 := by decide +kernel
set_option maxHeartbeats 4000000 in
theorem met_X1_way (l : Launch) (htr : l.stackTraces = false) (G : GP) (d : Nat) {post : Int32 → HS → Prop} {y0 : HS} {a0 : Nat} {i1 : Int32} {i2 : Int32} (hw : wp_X1_way G post y0 a0 i1 i2) : vx_Met l yX1_way (ws_ yX1_way cX1_way 3 (some .int)) (rmB (d + 62) 0) (hPc G y0 [va_rf (some a0), .int (i1), .int (i2)]) (hQi G y0 post) (hX G y0 (fun _ _ _ => False)) 0 (20 * 0) (HA y0) := by
  unfold wp_X1_way at hw
  refine hv_met (own := RX1) (by decide) rfl (Nat.le_of_ble_eq_true rfl) ?_
  intro p e s m args below meth c ls E hr hlocks hnm hE hK hI hl
  replace hl : lv_has ls 3 [(0, va_rf (some a0)), (1, .int (i1)), (2, .int (i2))] := hl
  refine hv_aload_n (r := some a0) E.1 E.2.1 dX1_way_0 rfl (lv_at hl 0 rfl) ?_
  refine lv_iload_n E.1 E.2.1 dX1_way_1 rfl (lv_at hl 1 rfl) ?_
  obtain ⟨⟨fs3, hrv⟩, hw⟩ := hw
  have hq := hw
  clear hw
  refine hv_callz (u := 0) (B1 := 0) hI (vx_runV (As := [.int (i1)]) (rest := []) E (met_X1_isStay l htr G (d + 60) hq) (cwV 1 E.2.2.2.2 (lw_V q1491 q1493 qs44 q121 q1494) rfl rfl rfl hd_X1_isStay (rm_ok (by omega) (by decide))) (hv_preV hK hI hrv rfl) rfl rfl hl.1 rfl (lv_room (by first | rfl | decide | (simp [va_rf_cat, int_cat, long_cat]; done) | (simp [va_rf_cat, int_cat, long_cat]; decide))) dX1_way_2 (hv_fit (by first | exact (Nat.le_refl 0) | omega))) (fun _ _ _ _ _ h => h.elim) (fun b2 y1 H locs hw hI => ?_)
  refine lv_if_ne (tgt := 10) E.1 E.2.1 dX1_way_5 (by decide) (fun c4 => ?_) (fun c4 => ?_)
  · replace hw := hw.1 (bi_n c4)
    refine hv_aload_n (r := some a0) E.1 E.2.1 dX1_way_10 rfl (lv_at hl 0 rfl) ?_
    refine lv_iload_n E.1 E.2.1 dX1_way_11 rfl (lv_at hl 1 rfl) ?_
    obtain ⟨⟨fs6, hrv⟩, hw⟩ := hw
    have hq := hw
    clear hw
    refine hv_callv (u := 0) (B1 := 0) hI (vx_runV (As := [.int (i1)]) (rest := []) E (met_X1_looks l htr G (d) hq) (cwV 1 E.2.2.2.2 (lw_V q1611 q1613 qs47 q121 q1614) rfl rfl rfl hd_X1_looks (rm_ok (by omega) (by decide))) (hv_preV hK hI hrv rfl) rfl rfl hl.1 rfl (lv_room (by first | rfl | decide | (simp [va_rf_cat, int_cat, long_cat]; done) | (simp [va_rf_cat, int_cat, long_cat]; decide))) dX1_way_12 (hv_fit (by first | exact (Nat.le_refl 0) | omega))) (fun _ _ _ _ _ h => h.elim) (fun y5 H locs hw hI => ?_)
    refine lv_iload_n E.1 E.2.1 dX1_way_15 rfl (lv_at hl 2 rfl) ?_
    refine lv_iconst (v := nI 0) E.1 E.2.1 dX1_way_16 rfl ?_
    refine hv_aload_n (r := some a0) E.1 E.2.1 dX1_way_17 rfl (lv_at hl 0 rfl) ?_
    obtain ⟨f7, ⟨fs, hfs, hfk⟩, hw⟩ := hw
    refine hv_get (v := va_rf f7) E hK hI ciX1 6 (Nat.le_of_ble_eq_true rfl) q1426 (fun _ h => h) (Or.inl hfs) hfk dX1_way_18 ?_
    obtain ⟨a8, ea8, hw⟩ := hw
    revert hl hw; subst ea8; intro hl hw
    obtain ⟨f9, ⟨fs, hfs, hfk⟩, hw⟩ := hw
    refine hv_getN (v := .int f9) E hK hI ciX4 6 (Nat.le_of_ble_eq_true rfl) q1399 (fun _ h => h) (Or.inl hfs) hfk dX1_way_21 ?_
    refine lv_iconst (v := nI 1) E.1 E.2.1 dX1_way_24 rfl ?_
    refine lv_isub E.1 E.2.1 dX1_way_25 ?_
    have hq := hw
    clear hw
    refine hv_callz (u := 0) (B1 := 0) hI (vx_runS (As := [.int (i2), .int (nI 0), .int (f9 - (nI 1))]) (rest := []) E (met_X1_within l G (d + 61) hq) (va_cwS 3 E.2.2.2.2 (lw_S q180 q181 q121 q182) rfl rfl rfl hs_X1_within (rm_ok (by omega) (by decide))) (hv_preS hK hI) rfl rfl hl.1 rfl (lv_room (by first | rfl | decide | (simp [va_rf_cat, int_cat, long_cat]; done) | (simp [va_rf_cat, int_cat, long_cat]; decide))) dX1_way_26 (hv_fit (by first | exact (Nat.le_refl 0) | omega))) (fun _ _ _ _ _ h => h.elim) (fun b11 y10 H locs hw hI => ?_)
    refine lv_if_eq (tgt := 47) E.1 E.2.1 dX1_way_29 (by decide) (fun c12 => ?_) (fun c12 => ?_)
    · replace hw := hw.1 (bi_z c12)
      refine lv_iconst (v := (-1)) E.1 E.2.1 dX1_way_47 rfl ?_
      exact hv_ireti E hr hlocks hI (Nat.le_refl 0) hw dX1_way_48
    · replace hw := hw.2 (bi_n c12)
      refine hv_aload_n (r := some a0) E.1 E.2.1 dX1_way_32 rfl (lv_at hl 0 rfl) ?_
      obtain ⟨f13, ⟨fs, hfs, hfk⟩, hw⟩ := hw
      refine hv_get (v := va_rf f13) E hK hI ciX1 6 (Nat.le_of_ble_eq_true rfl) q1426 (fun _ h => h) (Or.inl hfs) hfk dX1_way_33 ?_
      obtain ⟨a14, ea14, hw⟩ := hw
      revert hl hw; subst ea14; intro hl hw
      obtain ⟨f15, ⟨fs, hfs, hfk⟩, hw⟩ := hw
      refine hv_getN (v := .long f15) E hK hI ciX4 7 (Nat.le_of_ble_eq_true rfl) q1401 (fun _ h => h) (Or.inl hfs) hfk dX1_way_36 ?_
      refine lv_iload_n E.1 E.2.1 dX1_way_39 rfl (lv_at hl 2 rfl) ?_
      refine lv_lshr E.1 E.2.1 dX1_way_40 rfl ?_
      refine lv_lconst (v := 1) E.1 E.2.1 dX1_way_41 rfl ?_
      refine lv_land E.1 E.2.1 dX1_way_42 ?_
      refine lv_l2i E.1 E.2.1 dX1_way_43 rfl ?_
      refine lv_goto (tgt := 48) E.1 E.2.1 dX1_way_44 (by decide) ?_
      exact hv_ireti E hr hlocks hI (Nat.le_refl 0) hw dX1_way_48
  · replace hw := hw.2 (bi_z c4)
    refine lv_iconst (v := (-1)) E.1 E.2.1 dX1_way_8 rfl ?_
    exact hv_ireti E hr hlocks hI (Nat.le_refl 0) hw dX1_way_9
/-- CaseGrouper.partner(III)I -/
def wp_X1_partner (G : GP) (B : Nat) (post : Int32 → HS → Prop) (y0 : HS) (a0 : Nat) (i1 : Int32) (i2 : Int32) (i3 : Int32) : Prop := (∃ fs3, rd G y0 a0 (ob 0 fs3)) ∧ wp_X1_isStay G (fun b2 y1 => (b2 = false → post ((-1)) y1) ∧ (b2 = true → wp_X1_within G (fun b6 y5 => (b6 = false → post ((-1)) y5) ∧ (b6 = true → ∃ f8, fR y5 a0 0 3 f8 ∧ ∃ a9, f8 = some a9 ∧ (∃ fs12, rd G y5 a9 (ob 18 fs12)) ∧ wp_J2_get G (fun r11 y10 => isOf G y10 r11 17 ∧ ∃ a13, r11 = some a13 ∧ ∃ f14, fR y10 a13 17 3 f14 ∧ ∃ k17, 0 + k17 ≤ B ∧ wp_J13_valueOf G k17 (fun r16 y15 => ∃ a18, f14 = some a18 ∧ (∃ fs21, rd G y15 a18 (ob 18 fs21)) ∧ wp_J2_contains G (fun b20 y19 => (b20 = true → (∃ fs24, rd G y19 a0 (ob 0 fs24)) ∧ wp_X1_looks G (fun y23 => ∃ f25, fR y23 a0 0 6 f25 ∧ ∃ a26, f25 = some a26 ∧ (∃ fs29, rd G y23 a26 (ob 2 fs29)) ∧ wp_X4_partnerOf G (fun x28 y27 => (¬ i3 = 0 → ∃ f31, fR y27 a0 0 6 f31 ∧ ∃ a32, f31 = some a32 ∧ (∃ fs35, rd G y27 a32 (ob 2 fs35)) ∧ wp_X4_counts G (fun b34 y33 => (b34 = false → post (nI 0) y33) ∧ (b34 = true → post (nI 1) y33)) y27 a32 i2 x28) ∧ (i3 = 0 → post x28 y27)) y23 a26 i2) y19 a0 i1) ∧ (b20 = false → post ((-1)) y19)) y15 a18 r16) y10 i2) y5 a9 i1)) y1 i3 (nI 0) (nI 1))) y0 a0 i1
theorem hs_X1_partner : yX1_partner.cls ≠ "java/lang/invoke/MethodHandle" ∧ yX1_partner.cls ≠ "java/lang/invoke/VarHandle" ∧ (parseMethodDescriptor yX1_partner.desc).map (fun d => d.parameters.length) = some 3 := by decide +kernel
theorem hd_X1_partner : yX1_partner.cls = RX1 ∧ yX1_partner.cls ≠ "java/lang/invoke/MethodHandle" ∧ yX1_partner.cls ≠ "java/lang/invoke/VarHandle" ∧ (parseMethodDescriptor yX1_partner.desc).map (fun d => d.parameters.length) = some 3 := by decide +kernel
set_option maxHeartbeats 4000000 in
theorem met_X1_partner (l : Launch) (htr : l.stackTraces = false) (G : GP) (d : Nat) {B : Nat} {post : Int32 → HS → Prop} {y0 : HS} {a0 : Nat} {i1 : Int32} {i2 : Int32} {i3 : Int32} (hw : wp_X1_partner G B post y0 a0 i1 i2 i3) : vx_Met l yX1_partner (ws_ yX1_partner cX1_partner 5 (some .int)) (rmB (d + 62) B) (hPc G y0 [va_rf (some a0), .int (i1), .int (i2), .int (i3)]) (hQi G y0 post) (hX G y0 (fun _ _ _ => False)) B (20 * B) (HA y0) := by
  unfold wp_X1_partner at hw
  refine hv_met (own := RX1) (by decide) rfl (Nat.le_of_ble_eq_true rfl) ?_
  intro p e s m args below meth c ls E hr hlocks hnm hE hK hI hl
  replace hl : lv_has ls 5 [(0, va_rf (some a0)), (1, .int (i1)), (2, .int (i2)), (3, .int (i3))] := hl
  have hu : 0 ≤ B := Nat.zero_le _
  refine hv_aload_n (r := some a0) E.1 E.2.1 dX1_partner_0 rfl (lv_at hl 0 rfl) ?_
  refine lv_iload_n E.1 E.2.1 dX1_partner_1 rfl (lv_at hl 1 rfl) ?_
  obtain ⟨⟨fs3, hrv⟩, hw⟩ := hw
  have hq := hw
  clear hw
  refine hv_callz (u := 0) (B1 := 0) hI (vx_runV (As := [.int (i1)]) (rest := []) E (met_X1_isStay l htr G (d + 60) hq) (cwV 1 E.2.2.2.2 (lw_V q1491 q1493 qs44 q121 q1494) rfl rfl rfl hd_X1_isStay (rm_ok (by omega) (by decide))) (hv_preV hK hI hrv rfl) rfl rfl hl.1 rfl (lv_room (by first | rfl | decide | (simp [va_rf_cat, int_cat, long_cat]; done) | (simp [va_rf_cat, int_cat, long_cat]; decide))) dX1_partner_2 (hv_fit (by first | exact hu | omega))) (fun _ _ _ _ _ h => h.elim) (fun b2 y1 H locs hw hI => ?_)
  refine lv_if_eq (tgt := 41) E.1 E.2.1 dX1_partner_5 (by decide) (fun c4 => ?_) (fun c4 => ?_)
  · replace hw := hw.1 (bi_z c4)
    refine lv_iconst (v := (-1)) E.1 E.2.1 dX1_partner_41 rfl ?_
    exact hv_ireti E hr hlocks hI hu hw dX1_partner_42
  · replace hw := hw.2 (bi_n c4)
    refine lv_iload_n E.1 E.2.1 dX1_partner_8 rfl (lv_at hl 3 rfl) ?_
    refine lv_iconst (v := nI 0) E.1 E.2.1 dX1_partner_9 rfl ?_
    refine lv_iconst (v := nI 1) E.1 E.2.1 dX1_partner_10 rfl ?_
    have hq := hw
    clear hw
    refine hv_callz (u := 0) (B1 := 0) hI (vx_runS (As := [.int (i3), .int (nI 0), .int (nI 1)]) (rest := []) E (met_X1_within l G (d + 61) hq) (va_cwS 3 E.2.2.2.2 (lw_S q180 q181 q121 q182) rfl rfl rfl hs_X1_within (rm_ok (by omega) (by decide))) (hv_preS hK hI) rfl rfl hl.1 rfl (lv_room (by first | rfl | decide | (simp [va_rf_cat, int_cat, long_cat]; done) | (simp [va_rf_cat, int_cat, long_cat]; decide))) dX1_partner_11 (hv_fit (by first | exact hu | omega))) (fun _ _ _ _ _ h => h.elim) (fun b6 y5 H locs hw hI => ?_)
    refine lv_if_eq (tgt := 41) E.1 E.2.1 dX1_partner_14 (by decide) (fun c7 => ?_) (fun c7 => ?_)
    · replace hw := hw.1 (bi_z c7)
      refine lv_iconst (v := (-1)) E.1 E.2.1 dX1_partner_41 rfl ?_
      exact hv_ireti E hr hlocks hI hu hw dX1_partner_42
    · replace hw := hw.2 (bi_n c7)
      refine hv_aload_n (r := some a0) E.1 E.2.1 dX1_partner_17 rfl (lv_at hl 0 rfl) ?_
      obtain ⟨f8, ⟨fs, hfs, hfk⟩, hw⟩ := hw
      refine hv_get (v := va_rf f8) E hK hI ciX1 3 (Nat.le_of_ble_eq_true rfl) q1423 (fun _ h => h) (Or.inl hfs) hfk dX1_partner_18 ?_
      refine lv_iload_n E.1 E.2.1 dX1_partner_21 rfl (lv_at hl 1 rfl) ?_
      obtain ⟨a9, ea9, hw⟩ := hw
      revert hl hw; subst ea9; intro hl hw
      obtain ⟨⟨fs12, hrv⟩, hw⟩ := hw
      have hq := hw
      clear hw
      refine hv_callq (u := 0) (B1 := 0) hI (vx_runV (As := [.int (i1)]) (rest := []) E (met_J2_get l G (d + 59) hq) (cwV 1 E.2.2.2.2 (lw_V q1495 q785 q786 q124 q787) rfl rfl rfl hd_J2_get (rm_ok (by omega) (by decide))) (hv_preV hK hI hrv rfl) rfl rfl hl.1 rfl (lv_room (by first | rfl | decide | (simp [va_rf_cat, int_cat, long_cat]; done) | (simp [va_rf_cat, int_cat, long_cat]; decide))) dX1_partner_22 (hv_fit (by first | exact hu | omega))) (fun _ _ _ _ _ h => h.elim) (fun r11 y10 H locs hw hI => ?_)
      obtain ⟨hof, hw⟩ := hw
      refine hv_castC (cn := 17) E hK hI (by decide) q1454 hof dX1_partner_25 ?_
      obtain ⟨a13, ea13, hw⟩ := hw
      revert hl hw; subst ea13; intro hl hw
      obtain ⟨f14, ⟨fs, hfs, hfk⟩, hw⟩ := hw
      refine hv_getN (v := va_rf f14) E hK hI ciX19 3 (Nat.le_of_ble_eq_true rfl) q1471 (fun _ h => h) (Or.inl hfs) hfk dX1_partner_28 ?_
      refine lv_iload_n E.1 E.2.1 dX1_partner_31 rfl (lv_at hl 2 rfl) ?_
      obtain ⟨k17, hB, hw⟩ := hw
      have hq := hw
      clear hw
      refine hv_callq (u := 0) (B1 := k17) hI (vx_runS (As := [.int (i2)]) (rest := [va_rf f14]) E (met_J13_valueOf l G (d + 58) hq) (va_cwS 1 E.2.2.2.2 (lw_S q1596 q540 q141 q541) rfl rfl rfl hs_J13_valueOf (rm_ok (by omega) (by decide))) (hv_preS hK hI) rfl rfl hl.1 rfl (lv_room (by first | rfl | decide | (simp [va_rf_cat, int_cat, long_cat]; done) | (simp [va_rf_cat, int_cat, long_cat]; decide))) dX1_partner_32 (hv_fit (by first | exact hB | omega))) (fun _ _ _ _ _ h => h.elim) (fun r16 y15 H locs hw hI => ?_)
      have hu := hB
      obtain ⟨a18, ea18, hw⟩ := hw
      revert hl hw; subst ea18; intro hl hw
      obtain ⟨⟨fs21, hrv⟩, hw⟩ := hw
      have hq := hw
      clear hw
      refine hv_callz (u := ((0 + k17))) (B1 := 0) hI (vx_runV (As := [va_rf r16]) (rest := []) E (met_J2_contains l G (d + 57) hq) (cwV 1 E.2.2.2.2 (lw_V q1597 q1510 q1511 q124 q1512) rfl rfl rfl hd_J2_contains (rm_ok (by omega) (by decide))) (hv_preV hK hI hrv rfl) rfl rfl hl.1 rfl (lv_room (by first | rfl | decide | (simp [va_rf_cat, int_cat, long_cat]; done) | (simp [va_rf_cat, int_cat, long_cat]; decide))) dX1_partner_35 (hv_fit (by first | exact hu | omega))) (fun _ _ _ _ _ h => h.elim) (fun b20 y19 H locs hw hI => ?_)
      refine lv_if_ne (tgt := 43) E.1 E.2.1 dX1_partner_38 (by decide) (fun c22 => ?_) (fun c22 => ?_)
      · replace hw := hw.1 (bi_n c22)
        refine hv_aload_n (r := some a0) E.1 E.2.1 dX1_partner_43 rfl (lv_at hl 0 rfl) ?_
        refine lv_iload_n E.1 E.2.1 dX1_partner_44 rfl (lv_at hl 1 rfl) ?_
        obtain ⟨⟨fs24, hrv⟩, hw⟩ := hw
        have hq := hw
        clear hw
        refine hv_callv (u := ((0 + k17))) (B1 := 0) hI (vx_runV (As := [.int (i1)]) (rest := []) E (met_X1_looks l htr G (d) hq) (cwV 1 E.2.2.2.2 (lw_V q1611 q1613 qs47 q121 q1614) rfl rfl rfl hd_X1_looks (rm_ok (by omega) (by decide))) (hv_preV hK hI hrv rfl) rfl rfl hl.1 rfl (lv_room (by first | rfl | decide | (simp [va_rf_cat, int_cat, long_cat]; done) | (simp [va_rf_cat, int_cat, long_cat]; decide))) dX1_partner_45 (hv_fit (by first | exact hu | omega))) (fun _ _ _ _ _ h => h.elim) (fun y23 H locs hw hI => ?_)
        refine hv_aload_n (r := some a0) E.1 E.2.1 dX1_partner_48 rfl (lv_at hl 0 rfl) ?_
        obtain ⟨f25, ⟨fs, hfs, hfk⟩, hw⟩ := hw
        refine hv_get (v := va_rf f25) E hK hI ciX1 6 (Nat.le_of_ble_eq_true rfl) q1426 (fun _ h => h) (Or.inl hfs) hfk dX1_partner_49 ?_
        refine lv_iload_n E.1 E.2.1 dX1_partner_52 rfl (lv_at hl 2 rfl) ?_
        obtain ⟨a26, ea26, hw⟩ := hw
        revert hl hw; subst ea26; intro hl hw
        obtain ⟨⟨fs29, hrv⟩, hw⟩ := hw
        have hq := hw
        clear hw
        refine hv_calli (u := ((0 + k17))) (B1 := 0) hI (vx_runV (As := [.int (i2)]) (rest := []) E (met_X4_partnerOf l G (d + 58) hq) (cwV 1 E.2.2.2.2 (lw_V q1672 q1634 q1635 q127 q1636) rfl rfl rfl hd_X4_partnerOf (rm_ok (by omega) (by decide))) (hv_preV hK hI hrv rfl) rfl rfl hl.1 rfl (lv_room (by first | rfl | decide | (simp [va_rf_cat, int_cat, long_cat]; done) | (simp [va_rf_cat, int_cat, long_cat]; decide))) dX1_partner_53 (hv_fit (by first | exact hu | omega))) (fun _ _ _ _ _ h => h.elim) (fun x28 y27 H locs hw hI => ?_)
        refine lv_istore (lv' := [(4, .int (x28)), (0, va_rf (some a0)), (1, .int (i1)), (2, .int (i2)), (3, .int (i3))]) E.1 E.2.1 dX1_partner_56 hl (Nat.le_of_ble_eq_true rfl) (by first | rfl | decide | (simp [va_rf_cat, int_cat, long_cat]; done) | (simp [va_rf_cat, int_cat, long_cat]; decide)) (fun ls hl => ?_)
        refine lv_iload_n E.1 E.2.1 dX1_partner_58 rfl (lv_at hl 4 rfl) ?_
        refine lv_if_ne (tgt := 67) E.1 E.2.1 dX1_partner_59 (by decide) (fun c30 => ?_) (fun c30 => ?_)
        · replace hw := hw.1 (c30)
          refine hv_aload_n (r := some a0) E.1 E.2.1 dX1_partner_67 rfl (lv_at hl 1 rfl) ?_
          obtain ⟨f31, ⟨fs, hfs, hfk⟩, hw⟩ := hw
          refine hv_get (v := va_rf f31) E hK hI ciX1 6 (Nat.le_of_ble_eq_true rfl) q1426 (fun _ h => h) (Or.inl hfs) hfk dX1_partner_68 ?_
          refine lv_iload_n E.1 E.2.1 dX1_partner_71 rfl (lv_at hl 3 rfl) ?_
          refine lv_iload E.1 E.2.1 dX1_partner_72 (lv_at hl 0 rfl) ?_
          obtain ⟨a32, ea32, hw⟩ := hw
          revert hl hw; subst ea32; intro hl hw
          obtain ⟨⟨fs35, hrv⟩, hw⟩ := hw
          have hq := hw
          clear hw
          refine hv_callz (u := ((0 + k17))) (B1 := 0) hI (vx_runV (As := [.int (i2), .int (x28)]) (rest := []) E (met_X4_counts l G (d + 57) hq) (cwV 2 E.2.2.2.2 (lw_V q1673 q1639 q1640 q127 q1641) rfl rfl rfl hd_X4_counts (rm_ok (by omega) (by decide))) (hv_preV hK hI hrv rfl) rfl rfl hl.1 rfl (lv_room (by first | rfl | decide | (simp [va_rf_cat, int_cat, long_cat]; done) | (simp [va_rf_cat, int_cat, long_cat]; decide))) dX1_partner_74 (hv_fit (by first | exact hu | omega))) (fun _ _ _ _ _ h => h.elim) (fun b34 y33 H locs hw hI => ?_)
          refine lv_if_eq (tgt := 84) E.1 E.2.1 dX1_partner_77 (by decide) (fun c36 => ?_) (fun c36 => ?_)
          · replace hw := hw.1 (bi_z c36)
            refine lv_iconst (v := nI 0) E.1 E.2.1 dX1_partner_84 rfl ?_
            exact hv_ireti E hr hlocks hI hu hw dX1_partner_85
          · replace hw := hw.2 (bi_n c36)
            refine lv_iconst (v := nI 1) E.1 E.2.1 dX1_partner_80 rfl ?_
            refine lv_goto (tgt := 85) E.1 E.2.1 dX1_partner_81 (by decide) ?_
            exact hv_ireti E hr hlocks hI hu hw dX1_partner_85
        · replace hw := hw.2 (c30)
          refine lv_iload E.1 E.2.1 dX1_partner_62 (lv_at hl 0 rfl) ?_
          refine lv_goto (tgt := 85) E.1 E.2.1 dX1_partner_64 (by decide) ?_
          exact hv_ireti E hr hlocks hI hu hw dX1_partner_85
      · replace hw := hw.2 (bi_z c22)
        refine lv_iconst (v := (-1)) E.1 E.2.1 dX1_partner_41 rfl ?_
        exact hv_ireti E hr hlocks hI hu hw dX1_partner_42
/-- CaseGrouper.with(II)I -/
def wp_X1_with (G : GP) (B : Nat) (post : Int32 → HS → Prop) (y0 : HS) (a0 : Nat) (i1 : Int32) (i2 : Int32) : Prop := (∃ fs3, rd G y0 a0 (ob 0 fs3)) ∧ wp_X1_isStay G (fun b2 y1 => (b2 = false → post ((-2)) y1) ∧ (b2 = true → ∃ f5, fR y1 a0 0 3 f5 ∧ ∃ a6, f5 = some a6 ∧ (∃ fs9, rd G y1 a6 (ob 18 fs9)) ∧ wp_J2_get G (fun r8 y7 => isOf G y7 r8 17 ∧ ∃ a10, r8 = some a10 ∧ (∃ fs13, rd G y7 a10 (ob 17 fs13)) ∧ ∃ k14, 0 + k14 ≤ B ∧ wp_X19_mayHave G k14 (fun b12 y11 => (b12 = true → ∃ f16, fR y11 a0 0 3 f16 ∧ ∃ a17, f16 = some a17 ∧ (∃ fs20, rd G y11 a17 (ob 18 fs20)) ∧ wp_J2_get G (fun r19 y18 => isOf G y18 r19 17 ∧ ∃ a21, r19 = some a21 ∧ (∃ fs23, rd G y18 a21 (ob 17 fs23)) ∧ ∃ k24, (0 + k14) + k24 ≤ B ∧ wp_X19_takes G k24 (fun y22 => (∃ fs26, rd G y22 a0 (ob 0 fs26)) ∧ wp_X1_looks G (fun y25 => (∃ fs29, rd G y25 a21 (ob 17 fs29)) ∧ ∃ k30, ((0 + k14) + k24) + k30 ≤ B ∧ wp_X19_loses G k30 (fun b28 y27 => ∃ f31, fR y27 a0 0 6 f31 ∧ ∃ a32, f31 = some a32 ∧ (∃ fs35, rd G y27 a32 (ob 2 fs35)) ∧ wp_X4_cls G (fun x34 y33 => post x34 y33) y27 a32) y25 a21 i2) y22 a0 i1) y18 a21 i2) y11 a17 i1) ∧ (b12 = false → post ((-2)) y11)) y7 a10 i2) y1 a6 i1)) y0 a0 i1
theorem hs_X1_with : yX1_with.cls ≠ "java/lang/invoke/MethodHandle" ∧ yX1_with.cls ≠ "java/lang/invoke/VarHandle" ∧ (parseMethodDescriptor yX1_with.desc).map (fun d => d.parameters.length) = some 2 := by decide +kernel
theorem hd_X1_with : yX1_with.cls = RX1 ∧ yX1_with.cls ≠ "java/lang/invoke/MethodHandle" ∧ yX1_with.cls ≠ "java/lang/invoke/VarHandle" ∧ (parseMethodDescriptor yX1_with.desc).map (fun d => d.parameters.length) = some 2 := by decide +kernel
set_option maxHeartbeats 4000000 in
theorem met_X1_with (l : Launch) (htr : l.stackTraces = false) (G : GP) (d : Nat) {B : Nat} {post : Int32 → HS → Prop} {y0 : HS} {a0 : Nat} {i1 : Int32} {i2 : Int32} (hw : wp_X1_with G B post y0 a0 i1 i2) : vx_Met l yX1_with (ws_ yX1_with cX1_with 5 (some .int)) (rmB (d + 62) B) (hPc G y0 [va_rf (some a0), .int (i1), .int (i2)]) (hQi G y0 post) (hX G y0 (fun _ _ _ => False)) B (20 * B) (HA y0) := by
  unfold wp_X1_with at hw
  refine hv_met (own := RX1) (by decide) rfl (Nat.le_of_ble_eq_true rfl) ?_
  intro p e s m args below meth c ls E hr hlocks hnm hE hK hI hl
  replace hl : lv_has ls 5 [(0, va_rf (some a0)), (1, .int (i1)), (2, .int (i2))] := hl
  have hu : 0 ≤ B := Nat.zero_le _
  refine hv_aload_n (r := some a0) E.1 E.2.1 dX1_with_0 rfl (lv_at hl 0 rfl) ?_
  refine lv_iload_n E.1 E.2.1 dX1_with_1 rfl (lv_at hl 1 rfl) ?_
  obtain ⟨⟨fs3, hrv⟩, hw⟩ := hw
  have hq := hw
  clear hw
  refine hv_callz (u := 0) (B1 := 0) hI (vx_runV (As := [.int (i1)]) (rest := []) E (met_X1_isStay l htr G (d + 60) hq) (cwV 1 E.2.2.2.2 (lw_V q1491 q1493 qs44 q121 q1494) rfl rfl rfl hd_X1_isStay (rm_ok (by omega) (by decide))) (hv_preV hK hI hrv rfl) rfl rfl hl.1 rfl (lv_room (by first | rfl | decide | (simp [va_rf_cat, int_cat, long_cat]; done) | (simp [va_rf_cat, int_cat, long_cat]; decide))) dX1_with_2 (hv_fit (by first | exact hu | omega))) (fun _ _ _ _ _ h => h.elim) (fun b2 y1 H locs hw hI => ?_)
  refine lv_if_eq (tgt := 26) E.1 E.2.1 dX1_with_5 (by decide) (fun c4 => ?_) (fun c4 => ?_)
  · replace hw := hw.1 (bi_z c4)
    refine lv_bipush (v := (-2)) E.1 E.2.1 dX1_with_26 rfl ?_
    exact hv_ireti E hr hlocks hI hu hw dX1_with_28
  · replace hw := hw.2 (bi_n c4)
    refine hv_aload_n (r := some a0) E.1 E.2.1 dX1_with_8 rfl (lv_at hl 0 rfl) ?_
    obtain ⟨f5, ⟨fs, hfs, hfk⟩, hw⟩ := hw
    refine hv_get (v := va_rf f5) E hK hI ciX1 3 (Nat.le_of_ble_eq_true rfl) q1423 (fun _ h => h) (Or.inl hfs) hfk dX1_with_9 ?_
    refine lv_iload_n E.1 E.2.1 dX1_with_12 rfl (lv_at hl 1 rfl) ?_
    obtain ⟨a6, ea6, hw⟩ := hw
    revert hl hw; subst ea6; intro hl hw
    obtain ⟨⟨fs9, hrv⟩, hw⟩ := hw
    have hq := hw
    clear hw
    refine hv_callq (u := 0) (B1 := 0) hI (vx_runV (As := [.int (i1)]) (rest := []) E (met_J2_get l G (d + 59) hq) (cwV 1 E.2.2.2.2 (lw_V q1495 q785 q786 q124 q787) rfl rfl rfl hd_J2_get (rm_ok (by omega) (by decide))) (hv_preV hK hI hrv rfl) rfl rfl hl.1 rfl (lv_room (by first | rfl | decide | (simp [va_rf_cat, int_cat, long_cat]; done) | (simp [va_rf_cat, int_cat, long_cat]; decide))) dX1_with_13 (hv_fit (by first | exact hu | omega))) (fun _ _ _ _ _ h => h.elim) (fun r8 y7 H locs hw hI => ?_)
    obtain ⟨hof, hw⟩ := hw
    refine hv_castC (cn := 17) E hK hI (by decide) q1454 hof dX1_with_16 ?_
    refine lv_iload_n E.1 E.2.1 dX1_with_19 rfl (lv_at hl 2 rfl) ?_
    obtain ⟨a10, ea10, hw⟩ := hw
    revert hl hw; subst ea10; intro hl hw
    obtain ⟨⟨fs13, hrv⟩, hw⟩ := hw
    obtain ⟨k14, hB, hw⟩ := hw
    have hq := hw
    clear hw
    refine hv_callz (u := 0) (B1 := k14) hI (vx_runV (As := [.int (i2)]) (rest := []) E (met_X19_mayHave l G (d + 56) hq) (cwV 1 E.2.2.2.2 (lw_V q1496 q1497 q1498 q163 q1499) rfl rfl rfl hd_X19_mayHave (rm_ok (by omega) (by decide))) (hv_preV hK hI hrv rfl) rfl rfl hl.1 rfl (lv_room (by first | rfl | decide | (simp [va_rf_cat, int_cat, long_cat]; done) | (simp [va_rf_cat, int_cat, long_cat]; decide))) dX1_with_20 (hv_fit (by first | exact hB | omega))) (fun _ _ _ _ _ h => h.elim) (fun b12 y11 H locs hw hI => ?_)
    have hu := hB
    refine lv_if_ne (tgt := 29) E.1 E.2.1 dX1_with_23 (by decide) (fun c15 => ?_) (fun c15 => ?_)
    · replace hw := hw.1 (bi_n c15)
      refine hv_aload_n (r := some a0) E.1 E.2.1 dX1_with_29 rfl (lv_at hl 0 rfl) ?_
      obtain ⟨f16, ⟨fs, hfs, hfk⟩, hw⟩ := hw
      refine hv_get (v := va_rf f16) E hK hI ciX1 3 (Nat.le_of_ble_eq_true rfl) q1423 (fun _ h => h) (Or.inl hfs) hfk dX1_with_30 ?_
      refine lv_iload_n E.1 E.2.1 dX1_with_33 rfl (lv_at hl 1 rfl) ?_
      obtain ⟨a17, ea17, hw⟩ := hw
      revert hl hw; subst ea17; intro hl hw
      obtain ⟨⟨fs20, hrv⟩, hw⟩ := hw
      have hq := hw
      clear hw
      refine hv_callq (u := ((0 + k14))) (B1 := 0) hI (vx_runV (As := [.int (i1)]) (rest := []) E (met_J2_get l G (d + 59) hq) (cwV 1 E.2.2.2.2 (lw_V q1495 q785 q786 q124 q787) rfl rfl rfl hd_J2_get (rm_ok (by omega) (by decide))) (hv_preV hK hI hrv rfl) rfl rfl hl.1 rfl (lv_room (by first | rfl | decide | (simp [va_rf_cat, int_cat, long_cat]; done) | (simp [va_rf_cat, int_cat, long_cat]; decide))) dX1_with_34 (hv_fit (by first | exact hu | omega))) (fun _ _ _ _ _ h => h.elim) (fun r19 y18 H locs hw hI => ?_)
      obtain ⟨hof, hw⟩ := hw
      refine hv_castC (cn := 17) E hK hI (by decide) q1454 hof dX1_with_37 ?_
      refine hv_astore_n (r := r19) (lv' := [(3, va_rf r19), (0, va_rf (some a0)), (1, .int (i1)), (2, .int (i2))]) E.1 E.2.1 dX1_with_40 rfl hl (Nat.le_of_ble_eq_true rfl) (by first | rfl | decide | (simp [va_rf_cat, int_cat, long_cat]; done) | (simp [va_rf_cat, int_cat, long_cat]; decide)) (fun ls hl => ?_)
      refine hv_aload_n (r := r19) E.1 E.2.1 dX1_with_41 rfl (lv_at hl 0 rfl) ?_
      refine lv_iload_n E.1 E.2.1 dX1_with_42 rfl (lv_at hl 3 rfl) ?_
      obtain ⟨a21, ea21, hw⟩ := hw
      revert hl hw; subst ea21; intro hl hw
      obtain ⟨⟨fs23, hrv⟩, hw⟩ := hw
      obtain ⟨k24, hB, hw⟩ := hw
      have hq := hw
      clear hw
      refine hv_callv (u := ((0 + k14))) (B1 := k24) hI (vx_runV (As := [.int (i2)]) (rest := []) E (met_X19_takes l G (d + 55) hq) (cwV 1 E.2.2.2.2 (lw_V q1559 q1560 q1561 q163 q1562) rfl rfl rfl hd_X19_takes (rm_ok (by omega) (by decide))) (hv_preV hK hI hrv rfl) rfl rfl hl.1 rfl (lv_room (by first | rfl | decide | (simp [va_rf_cat, int_cat, long_cat]; done) | (simp [va_rf_cat, int_cat, long_cat]; decide))) dX1_with_43 (hv_fit (by first | exact hB | omega))) (fun _ _ _ _ _ h => h.elim) (fun y22 H locs hw hI => ?_)
      have hu := hB
      refine hv_aload_n (r := some a0) E.1 E.2.1 dX1_with_46 rfl (lv_at hl 1 rfl) ?_
      refine lv_iload_n E.1 E.2.1 dX1_with_47 rfl (lv_at hl 2 rfl) ?_
      obtain ⟨⟨fs26, hrv⟩, hw⟩ := hw
      have hq := hw
      clear hw
      refine hv_callv (u := (((0 + k14) + k24))) (B1 := 0) hI (vx_runV (As := [.int (i1)]) (rest := []) E (met_X1_looks l htr G (d) hq) (cwV 1 E.2.2.2.2 (lw_V q1611 q1613 qs47 q121 q1614) rfl rfl rfl hd_X1_looks (rm_ok (by omega) (by decide))) (hv_preV hK hI hrv rfl) rfl rfl hl.1 rfl (lv_room (by first | rfl | decide | (simp [va_rf_cat, int_cat, long_cat]; done) | (simp [va_rf_cat, int_cat, long_cat]; decide))) dX1_with_48 (hv_fit (by first | exact hu | omega))) (fun _ _ _ _ _ h => h.elim) (fun y25 H locs hw hI => ?_)
      refine hv_aload_n (r := some a21) E.1 E.2.1 dX1_with_51 rfl (lv_at hl 0 rfl) ?_
      refine lv_iload_n E.1 E.2.1 dX1_with_52 rfl (lv_at hl 3 rfl) ?_
      obtain ⟨⟨fs29, hrv⟩, hw⟩ := hw
      obtain ⟨k30, hB, hw⟩ := hw
      have hq := hw
      clear hw
      refine hv_callz (u := (((0 + k14) + k24))) (B1 := k30) hI (vx_runV (As := [.int (i2)]) (rest := []) E (met_X19_loses l G (d + 57) hq) (cwV 1 E.2.2.2.2 (lw_V q1580 q1581 q1582 q163 q1583) rfl rfl rfl hd_X19_loses (rm_ok (by omega) (by decide))) (hv_preV hK hI hrv rfl) rfl rfl hl.1 rfl (lv_room (by first | rfl | decide | (simp [va_rf_cat, int_cat, long_cat]; done) | (simp [va_rf_cat, int_cat, long_cat]; decide))) dX1_with_53 (hv_fit (by first | exact hB | omega))) (fun _ _ _ _ _ h => h.elim) (fun b28 y27 H locs hw hI => ?_)
      have hu := hB
      refine lv_istore (lv' := [(4, .int (bi b28)), (3, va_rf (some a21)), (0, va_rf (some a0)), (1, .int (i1)), (2, .int (i2))]) E.1 E.2.1 dX1_with_56 hl (Nat.le_of_ble_eq_true rfl) (by first | rfl | decide | (simp [va_rf_cat, int_cat, long_cat]; done) | (simp [va_rf_cat, int_cat, long_cat]; decide)) (fun ls hl => ?_)
      refine hv_aload_n (r := some a0) E.1 E.2.1 dX1_with_58 rfl (lv_at hl 2 rfl) ?_
      obtain ⟨f31, ⟨fs, hfs, hfk⟩, hw⟩ := hw
      refine hv_get (v := va_rf f31) E hK hI ciX1 6 (Nat.le_of_ble_eq_true rfl) q1426 (fun _ h => h) (Or.inl hfs) hfk dX1_with_59 ?_
      obtain ⟨a32, ea32, hw⟩ := hw
      revert hl hw; subst ea32; intro hl hw
      obtain ⟨⟨fs35, hrv⟩, hw⟩ := hw
      have hq := hw
      clear hw
      refine hv_calli (u := ((((0 + k14) + k24) + k30))) (B1 := 0) hI (vx_runV (As := []) (rest := []) E (met_X4_cls l G (d + 61) hq) (cwV 0 E.2.2.2.2 (lw_V q1655 q1656 q1657 q127 q1658) rfl rfl rfl hd_X4_cls (rm_ok (by omega) (by decide))) (hv_preV hK hI hrv rfl) rfl rfl hl.1 rfl (lv_room (by first | rfl | decide | (simp [va_rf_cat, int_cat, long_cat]; done) | (simp [va_rf_cat, int_cat, long_cat]; decide))) dX1_with_62 (hv_fit (by first | exact hu | omega))) (fun _ _ _ _ _ h => h.elim) (fun x34 y33 H locs hw hI => ?_)
      exact hv_ireti E hr hlocks hI hu hw dX1_with_65
    · replace hw := hw.2 (bi_z c15)
      refine lv_bipush (v := (-2)) E.1 E.2.1 dX1_with_26 rfl ?_
      exact hv_ireti E hr hlocks hI hu hw dX1_with_28
/-- CaseGrouper.without(II)I -/
def wp_X1_without (G : GP) (B : Nat) (post : Int32 → HS → Prop) (y0 : HS) (a0 : Nat) (i1 : Int32) (i2 : Int32) : Prop := (∃ fs3, rd G y0 a0 (ob 0 fs3)) ∧ wp_X1_isStay G (fun b2 y1 => (b2 = false → post ((-2)) y1) ∧ (b2 = true → ∃ f5, fR y1 a0 0 3 f5 ∧ ∃ a6, f5 = some a6 ∧ (∃ fs9, rd G y1 a6 (ob 18 fs9)) ∧ wp_J2_get G (fun r8 y7 => isOf G y7 r8 17 ∧ ∃ a10, r8 = some a10 ∧ (∃ fs13, rd G y7 a10 (ob 17 fs13)) ∧ ∃ k14, 0 + k14 ≤ B ∧ wp_X19_loses G k14 (fun b12 y11 => (b12 = true → (∃ fs17, rd G y11 a0 (ob 0 fs17)) ∧ wp_X1_looks G (fun y16 => ∃ f18, fR y16 a0 0 3 f18 ∧ ∃ a19, f18 = some a19 ∧ (∃ fs22, rd G y16 a19 (ob 18 fs22)) ∧ wp_J2_get G (fun r21 y20 => isOf G y20 r21 17 ∧ ∃ a23, r21 = some a23 ∧ (∃ fs25, rd G y20 a23 (ob 17 fs25)) ∧ ∃ k26, (0 + k14) + k26 ≤ B ∧ wp_X19_takes G k26 (fun y24 => ∃ f27, fR y24 a0 0 6 f27 ∧ ∃ a28, f27 = some a28 ∧ (∃ fs31, rd G y24 a28 (ob 2 fs31)) ∧ wp_X4_cls G (fun x30 y29 => post x30 y29) y24 a28) y20 a23 i2) y16 a19 i1) y11 a0 i1) ∧ (b12 = false → post ((-2)) y11)) y7 a10 i2) y1 a6 i1)) y0 a0 i1
theorem hs_X1_without : yX1_without.cls ≠ "java/lang/invoke/MethodHandle" ∧ yX1_without.cls ≠ "java/lang/invoke/VarHandle" ∧ (parseMethodDescriptor yX1_without.desc).map (fun d => d.parameters.length) = some 2 := by decide +kernel
theorem hd_X1_without : yX1_without.cls = RX1 ∧ yX1_without.cls ≠ "java/lang/invoke/MethodHandle" ∧ yX1_without.cls ≠ "java/lang/invoke/VarHandle" ∧ (parseMethodDescriptor yX1_without.desc).map (fun d => d.parameters.length) = some 2 := by decide +kernel
set_option maxHeartbeats 4000000 in
theorem met_X1_without (l : Launch) (htr : l.stackTraces = false) (G : GP) (d : Nat) {B : Nat} {post : Int32 → HS → Prop} {y0 : HS} {a0 : Nat} {i1 : Int32} {i2 : Int32} (hw : wp_X1_without G B post y0 a0 i1 i2) : vx_Met l yX1_without (ws_ yX1_without cX1_without 3 (some .int)) (rmB (d + 62) B) (hPc G y0 [va_rf (some a0), .int (i1), .int (i2)]) (hQi G y0 post) (hX G y0 (fun _ _ _ => False)) B (20 * B) (HA y0) := by
  unfold wp_X1_without at hw
  refine hv_met (own := RX1) (by decide) rfl (Nat.le_of_ble_eq_true rfl) ?_
  intro p e s m args below meth c ls E hr hlocks hnm hE hK hI hl
  replace hl : lv_has ls 3 [(0, va_rf (some a0)), (1, .int (i1)), (2, .int (i2))] := hl
  have hu : 0 ≤ B := Nat.zero_le _
  refine hv_aload_n (r := some a0) E.1 E.2.1 dX1_without_0 rfl (lv_at hl 0 rfl) ?_
  refine lv_iload_n E.1 E.2.1 dX1_without_1 rfl (lv_at hl 1 rfl) ?_
  obtain ⟨⟨fs3, hrv⟩, hw⟩ := hw
  have hq := hw
  clear hw
  refine hv_callz (u := 0) (B1 := 0) hI (vx_runV (As := [.int (i1)]) (rest := []) E (met_X1_isStay l htr G (d + 60) hq) (cwV 1 E.2.2.2.2 (lw_V q1491 q1493 qs44 q121 q1494) rfl rfl rfl hd_X1_isStay (rm_ok (by omega) (by decide))) (hv_preV hK hI hrv rfl) rfl rfl hl.1 rfl (lv_room (by first | rfl | decide | (simp [va_rf_cat, int_cat, long_cat]; done) | (simp [va_rf_cat, int_cat, long_cat]; decide))) dX1_without_2 (hv_fit (by first | exact hu | omega))) (fun _ _ _ _ _ h => h.elim) (fun b2 y1 H locs hw hI => ?_)
  refine lv_if_eq (tgt := 26) E.1 E.2.1 dX1_without_5 (by decide) (fun c4 => ?_) (fun c4 => ?_)
  · replace hw := hw.1 (bi_z c4)
    refine lv_bipush (v := (-2)) E.1 E.2.1 dX1_without_26 rfl ?_
    exact hv_ireti E hr hlocks hI hu hw dX1_without_28
  · replace hw := hw.2 (bi_n c4)
    refine hv_aload_n (r := some a0) E.1 E.2.1 dX1_without_8 rfl (lv_at hl 0 rfl) ?_
    obtain ⟨f5, ⟨fs, hfs, hfk⟩, hw⟩ := hw
    refine hv_get (v := va_rf f5) E hK hI ciX1 3 (Nat.le_of_ble_eq_true rfl) q1423 (fun _ h => h) (Or.inl hfs) hfk dX1_without_9 ?_
    refine lv_iload_n E.1 E.2.1 dX1_without_12 rfl (lv_at hl 1 rfl) ?_
    obtain ⟨a6, ea6, hw⟩ := hw
    revert hl hw; subst ea6; intro hl hw
    obtain ⟨⟨fs9, hrv⟩, hw⟩ := hw
    have hq := hw
    clear hw
    refine hv_callq (u := 0) (B1 := 0) hI (vx_runV (As := [.int (i1)]) (rest := []) E (met_J2_get l G (d + 59) hq) (cwV 1 E.2.2.2.2 (lw_V q1495 q785 q786 q124 q787) rfl rfl rfl hd_J2_get (rm_ok (by omega) (by decide))) (hv_preV hK hI hrv rfl) rfl rfl hl.1 rfl (lv_room (by first | rfl | decide | (simp [va_rf_cat, int_cat, long_cat]; done) | (simp [va_rf_cat, int_cat, long_cat]; decide))) dX1_without_13 (hv_fit (by first | exact hu | omega))) (fun _ _ _ _ _ h => h.elim) (fun r8 y7 H locs hw hI => ?_)
    obtain ⟨hof, hw⟩ := hw
    refine hv_castC (cn := 17) E hK hI (by decide) q1454 hof dX1_without_16 ?_
    refine lv_iload_n E.1 E.2.1 dX1_without_19 rfl (lv_at hl 2 rfl) ?_
    obtain ⟨a10, ea10, hw⟩ := hw
    revert hl hw; subst ea10; intro hl hw
    obtain ⟨⟨fs13, hrv⟩, hw⟩ := hw
    obtain ⟨k14, hB, hw⟩ := hw
    have hq := hw
    clear hw
    refine hv_callz (u := 0) (B1 := k14) hI (vx_runV (As := [.int (i2)]) (rest := []) E (met_X19_loses l G (d + 57) hq) (cwV 1 E.2.2.2.2 (lw_V q1580 q1581 q1582 q163 q1583) rfl rfl rfl hd_X19_loses (rm_ok (by omega) (by decide))) (hv_preV hK hI hrv rfl) rfl rfl hl.1 rfl (lv_room (by first | rfl | decide | (simp [va_rf_cat, int_cat, long_cat]; done) | (simp [va_rf_cat, int_cat, long_cat]; decide))) dX1_without_20 (hv_fit (by first | exact hB | omega))) (fun _ _ _ _ _ h => h.elim) (fun b12 y11 H locs hw hI => ?_)
    have hu := hB
    refine lv_if_ne (tgt := 29) E.1 E.2.1 dX1_without_23 (by decide) (fun c15 => ?_) (fun c15 => ?_)
    · replace hw := hw.1 (bi_n c15)
      refine hv_aload_n (r := some a0) E.1 E.2.1 dX1_without_29 rfl (lv_at hl 0 rfl) ?_
      refine lv_iload_n E.1 E.2.1 dX1_without_30 rfl (lv_at hl 1 rfl) ?_
      obtain ⟨⟨fs17, hrv⟩, hw⟩ := hw
      have hq := hw
      clear hw
      refine hv_callv (u := ((0 + k14))) (B1 := 0) hI (vx_runV (As := [.int (i1)]) (rest := []) E (met_X1_looks l htr G (d) hq) (cwV 1 E.2.2.2.2 (lw_V q1611 q1613 qs47 q121 q1614) rfl rfl rfl hd_X1_looks (rm_ok (by omega) (by decide))) (hv_preV hK hI hrv rfl) rfl rfl hl.1 rfl (lv_room (by first | rfl | decide | (simp [va_rf_cat, int_cat, long_cat]; done) | (simp [va_rf_cat, int_cat, long_cat]; decide))) dX1_without_31 (hv_fit (by first | exact hu | omega))) (fun _ _ _ _ _ h => h.elim) (fun y16 H locs hw hI => ?_)
      refine hv_aload_n (r := some a0) E.1 E.2.1 dX1_without_34 rfl (lv_at hl 0 rfl) ?_
      obtain ⟨f18, ⟨fs, hfs, hfk⟩, hw⟩ := hw
      refine hv_get (v := va_rf f18) E hK hI ciX1 3 (Nat.le_of_ble_eq_true rfl) q1423 (fun _ h => h) (Or.inl hfs) hfk dX1_without_35 ?_
      refine lv_iload_n E.1 E.2.1 dX1_without_38 rfl (lv_at hl 1 rfl) ?_
      obtain ⟨a19, ea19, hw⟩ := hw
      revert hl hw; subst ea19; intro hl hw
      obtain ⟨⟨fs22, hrv⟩, hw⟩ := hw
      have hq := hw
      clear hw
      refine hv_callq (u := ((0 + k14))) (B1 := 0) hI (vx_runV (As := [.int (i1)]) (rest := []) E (met_J2_get l G (d + 59) hq) (cwV 1 E.2.2.2.2 (lw_V q1495 q785 q786 q124 q787) rfl rfl rfl hd_J2_get (rm_ok (by omega) (by decide))) (hv_preV hK hI hrv rfl) rfl rfl hl.1 rfl (lv_room (by first | rfl | decide | (simp [va_rf_cat, int_cat, long_cat]; done) | (simp [va_rf_cat, int_cat, long_cat]; decide))) dX1_without_39 (hv_fit (by first | exact hu | omega))) (fun _ _ _ _ _ h => h.elim) (fun r21 y20 H locs hw hI => ?_)
      obtain ⟨hof, hw⟩ := hw
      refine hv_castC (cn := 17) E hK hI (by decide) q1454 hof dX1_without_42 ?_
      refine lv_iload_n E.1 E.2.1 dX1_without_45 rfl (lv_at hl 2 rfl) ?_
      obtain ⟨a23, ea23, hw⟩ := hw
      revert hl hw; subst ea23; intro hl hw
      obtain ⟨⟨fs25, hrv⟩, hw⟩ := hw
      obtain ⟨k26, hB, hw⟩ := hw
      have hq := hw
      clear hw
      refine hv_callv (u := ((0 + k14))) (B1 := k26) hI (vx_runV (As := [.int (i2)]) (rest := []) E (met_X19_takes l G (d + 55) hq) (cwV 1 E.2.2.2.2 (lw_V q1559 q1560 q1561 q163 q1562) rfl rfl rfl hd_X19_takes (rm_ok (by omega) (by decide))) (hv_preV hK hI hrv rfl) rfl rfl hl.1 rfl (lv_room (by first | rfl | decide | (simp [va_rf_cat, int_cat, long_cat]; done) | (simp [va_rf_cat, int_cat, long_cat]; decide))) dX1_without_46 (hv_fit (by first | exact hB | omega))) (fun _ _ _ _ _ h => h.elim) (fun y24 H locs hw hI => ?_)
      have hu := hB
      refine hv_aload_n (r := some a0) E.1 E.2.1 dX1_without_49 rfl (lv_at hl 0 rfl) ?_
      obtain ⟨f27, ⟨fs, hfs, hfk⟩, hw⟩ := hw
      refine hv_get (v := va_rf f27) E hK hI ciX1 6 (Nat.le_of_ble_eq_true rfl) q1426 (fun _ h => h) (Or.inl hfs) hfk dX1_without_50 ?_
      obtain ⟨a28, ea28, hw⟩ := hw
      revert hl hw; subst ea28; intro hl hw
      obtain ⟨⟨fs31, hrv⟩, hw⟩ := hw
      have hq := hw
      clear hw
      refine hv_calli (u := (((0 + k14) + k26))) (B1 := 0) hI (vx_runV (As := []) (rest := []) E (met_X4_cls l G (d + 61) hq) (cwV 0 E.2.2.2.2 (lw_V q1655 q1656 q1657 q127 q1658) rfl rfl rfl hd_X4_cls (rm_ok (by omega) (by decide))) (hv_preV hK hI hrv rfl) rfl rfl hl.1 rfl (lv_room (by first | rfl | decide | (simp [va_rf_cat, int_cat, long_cat]; done) | (simp [va_rf_cat, int_cat, long_cat]; decide))) dX1_without_53 (hv_fit (by first | exact hu | omega))) (fun _ _ _ _ _ h => h.elim) (fun x30 y29 H locs hw hI => ?_)
      exact hv_ireti E hr hlocks hI hu hw dX1_without_56
    · replace hw := hw.2 (bi_z c15)
      refine lv_bipush (v := (-2)) E.1 E.2.1 dX1_without_26 rfl ?_
      exact hv_ireti E hr hlocks hI hu hw dX1_without_28
/-- CaseGrouper.matters(I)I -/
def wp_X1_matters (G : GP) (B : Nat) (post : Int32 → HS → Prop) (y0 : HS) (a0 : Nat) (i1 : Int32) : Prop := (∃ fs3, rd G y0 a0 (ob 0 fs3)) ∧ wp_X1_isStay G (fun b2 y1 => (b2 = true → (∃ fs6, rd G y1 a0 (ob 0 fs6)) ∧ wp_X1_looks G (fun y5 => ∃ f7, fR y5 a0 0 6 f7 ∧ ∃ a8, f7 = some a8 ∧ (∃ fs11, rd G y5 a8 (ob 2 fs11)) ∧ wp_X4_cls G (fun x10 y9 => ∃ I12 : Nat → HS → Nat → Int32 → Int32 → Prop, (∃ n20, I12 n20 y9 0 (nI 0) (nI 0)) ∧ ∀ (n13 : Nat) (y14 : HS) (u19 : Nat) (x17 : Int32) (x18 : Int32), I12 n13 y14 u19 x17 x18 → u19 ≤ B ∧ ∃ f21, fR y14 a0 0 3 f21 ∧ ∃ a22, f21 = some a22 ∧ (∃ fs25, rd G y14 a22 (ob 18 fs25)) ∧ wp_J2_get G (fun r24 y23 => isOf G y23 r24 17 ∧ ∃ a26, r24 = some a26 ∧ (∃ fs29, rd G y23 a26 (ob 17 fs29)) ∧ wp_X19_codes G (fun x28 y27 => (x28 ≤ x18 → post x17 y27) ∧ (¬ x28 ≤ x18 → ∃ f31, fR y27 a0 0 3 f31 ∧ ∃ a32, f31 = some a32 ∧ (∃ fs35, rd G y27 a32 (ob 18 fs35)) ∧ wp_J2_get G (fun r34 y33 => isOf G y33 r34 17 ∧ ∃ a36, r34 = some a36 ∧ (∃ fs39, rd G y33 a36 (ob 17 fs39)) ∧ wp_X19_codeAt G (fun x38 y37 => (∃ fs42, rd G y37 a0 (ob 0 fs42)) ∧ ∃ k43, u19 + k43 ≤ B ∧ wp_X1_without G k43 (fun x41 y40 => (x41 = x10 → ∀ x45, x45 = x17 ||| (nI 0) → ∃ n46, n46 < n13 ∧ I12 n46 y40 ((u19 + k43)) x45 (x18 + nI 1)) ∧ (¬ x41 = x10 → ∀ x47, x47 = x17 ||| ((nI 1) <<< (x18 &&& 31)) → ∃ n48, n48 < n13 ∧ I12 n48 y40 ((u19 + k43)) x47 (x18 + nI 1))) y37 a0 i1 x38) y33 a36 x18) y27 a32 i1)) y23 a26) y14 a22 i1) y5 a8) y1 a0 i1) ∧ (b2 = false → post ((-1)) y1)) y0 a0 i1
theorem hs_X1_matters : yX1_matters.cls ≠ "java/lang/invoke/MethodHandle" ∧ yX1_matters.cls ≠ "java/lang/invoke/VarHandle" ∧ (parseMethodDescriptor yX1_matters.desc).map (fun d => d.parameters.length) = some 1 := by decide +kernel
theorem hd_X1_matters : yX1_matters.cls = RX1 ∧ yX1_matters.cls ≠ "java/lang/invoke/MethodHandle" ∧ yX1_matters.cls ≠ "java/lang/invoke/VarHandle" ∧ (parseMethodDescriptor yX1_matters.desc).map (fun d => d.parameters.length) = some 1 := by decide +kernel
set_option maxHeartbeats 4000000 in
theorem met_X1_matters (l : Launch) (htr : l.stackTraces = false) (G : GP) (d : Nat) {B : Nat} {post : Int32 → HS → Prop} {y0 : HS} {a0 : Nat} {i1 : Int32} (hw : wp_X1_matters G B post y0 a0 i1) : vx_Met l yX1_matters (ws_ yX1_matters cX1_matters 5 (some .int)) (rmB (d + 63) B) (hPc G y0 [va_rf (some a0), .int (i1)]) (hQi G y0 post) (hX G y0 (fun _ _ _ => False)) B (20 * B) (HA y0) := by
  unfold wp_X1_matters at hw
  refine hv_met (own := RX1) (by decide) rfl (Nat.le_of_ble_eq_true rfl) ?_
  intro p e s m args below meth c ls E hr hlocks hnm hE hK hI hl
  replace hl : lv_has ls 5 [(0, va_rf (some a0)), (1, .int (i1))] := hl
  have hu : 0 ≤ B := Nat.zero_le _
  refine hv_aload_n (r := some a0) E.1 E.2.1 dX1_matters_0 rfl (lv_at hl 0 rfl) ?_
  refine lv_iload_n E.1 E.2.1 dX1_matters_1 rfl (lv_at hl 1 rfl) ?_
  obtain ⟨⟨fs3, hrv⟩, hw⟩ := hw
  have hq := hw
  clear hw
  refine hv_callz (u := 0) (B1 := 0) hI (vx_runV (As := [.int (i1)]) (rest := []) E (met_X1_isStay l htr G (d + 61) hq) (cwV 1 E.2.2.2.2 (lw_V q1491 q1493 qs44 q121 q1494) rfl rfl rfl hd_X1_isStay (rm_ok (by omega) (by decide))) (hv_preV hK hI hrv rfl) rfl rfl hl.1 rfl (lv_room (by first | rfl | decide | (simp [va_rf_cat, int_cat, long_cat]; done) | (simp [va_rf_cat, int_cat, long_cat]; decide))) dX1_matters_2 (hv_fit (by first | exact hu | omega))) (fun _ _ _ _ _ h => h.elim) (fun b2 y1 H locs hw hI => ?_)
  refine lv_if_ne (tgt := 10) E.1 E.2.1 dX1_matters_5 (by decide) (fun c4 => ?_) (fun c4 => ?_)
  · replace hw := hw.1 (bi_n c4)
    refine hv_aload_n (r := some a0) E.1 E.2.1 dX1_matters_10 rfl (lv_at hl 0 rfl) ?_
    refine lv_iload_n E.1 E.2.1 dX1_matters_11 rfl (lv_at hl 1 rfl) ?_
    obtain ⟨⟨fs6, hrv⟩, hw⟩ := hw
    have hq := hw
    clear hw
    refine hv_callv (u := 0) (B1 := 0) hI (vx_runV (As := [.int (i1)]) (rest := []) E (met_X1_looks l htr G (d + 1) hq) (cwV 1 E.2.2.2.2 (lw_V q1611 q1613 qs47 q121 q1614) rfl rfl rfl hd_X1_looks (rm_ok (by omega) (by decide))) (hv_preV hK hI hrv rfl) rfl rfl hl.1 rfl (lv_room (by first | rfl | decide | (simp [va_rf_cat, int_cat, long_cat]; done) | (simp [va_rf_cat, int_cat, long_cat]; decide))) dX1_matters_12 (hv_fit (by first | exact hu | omega))) (fun _ _ _ _ _ h => h.elim) (fun y5 H locs hw hI => ?_)
    refine hv_aload_n (r := some a0) E.1 E.2.1 dX1_matters_15 rfl (lv_at hl 0 rfl) ?_
    obtain ⟨f7, ⟨fs, hfs, hfk⟩, hw⟩ := hw
    refine hv_get (v := va_rf f7) E hK hI ciX1 6 (Nat.le_of_ble_eq_true rfl) q1426 (fun _ h => h) (Or.inl hfs) hfk dX1_matters_16 ?_
    obtain ⟨a8, ea8, hw⟩ := hw
    revert hl hw; subst ea8; intro hl hw
    obtain ⟨⟨fs11, hrv⟩, hw⟩ := hw
    have hq := hw
    clear hw
    refine hv_calli (u := 0) (B1 := 0) hI (vx_runV (As := []) (rest := []) E (met_X4_cls l G (d + 62) hq) (cwV 0 E.2.2.2.2 (lw_V q1655 q1656 q1657 q127 q1658) rfl rfl rfl hd_X4_cls (rm_ok (by omega) (by decide))) (hv_preV hK hI hrv rfl) rfl rfl hl.1 rfl (lv_room (by first | rfl | decide | (simp [va_rf_cat, int_cat, long_cat]; done) | (simp [va_rf_cat, int_cat, long_cat]; decide))) dX1_matters_19 (hv_fit (by first | exact hu | omega))) (fun _ _ _ _ _ h => h.elim) (fun x10 y9 H locs hw hI => ?_)
    refine lv_istore_n (lv' := [(2, .int (x10)), (0, va_rf (some a0)), (1, .int (i1))]) E.1 E.2.1 dX1_matters_22 rfl hl (Nat.le_of_ble_eq_true rfl) (by first | rfl | decide | (simp [va_rf_cat, int_cat, long_cat]; done) | (simp [va_rf_cat, int_cat, long_cat]; decide)) (fun ls hl => ?_)
    refine lv_iconst (v := nI 0) E.1 E.2.1 dX1_matters_23 rfl ?_
    refine lv_istore_n (lv' := [(3, .int (nI 0)), (2, .int (x10)), (0, va_rf (some a0)), (1, .int (i1))]) E.1 E.2.1 dX1_matters_24 rfl hl (Nat.le_of_ble_eq_true rfl) (by first | rfl | decide | (simp [va_rf_cat, int_cat, long_cat]; done) | (simp [va_rf_cat, int_cat, long_cat]; decide)) (fun ls hl => ?_)
    refine lv_iconst (v := nI 0) E.1 E.2.1 dX1_matters_25 rfl ?_
    refine lv_istore (lv' := [(4, .int (nI 0)), (3, .int (nI 0)), (2, .int (x10)), (0, va_rf (some a0)), (1, .int (i1))]) E.1 E.2.1 dX1_matters_26 hl (Nat.le_of_ble_eq_true rfl) (by first | rfl | decide | (simp [va_rf_cat, int_cat, long_cat]; done) | (simp [va_rf_cat, int_cat, long_cat]; decide)) (fun ls hl => ?_)
    obtain ⟨I12, ⟨n20, hi50⟩, hb49⟩ := hw
    have L16 : ∀ (n13 : Nat) (y14 : HS) (u19 : Nat) (x17 : Int32) (x18 : Int32), I12 n13 y14 u19 x17 x18 → ∀ (H : Heap) (locs : List Loc) (ls : Array Slot), HI G y0 y14 s H locs → lv_has ls 5 [(0, va_rf (some a0)), (1, .int (i1)), (2, .int (x10)), (3, .int (x17)), (4, .int (x18))] → W p l e (rmB (d + 63) B) s m args below meth c H locs u19 (20 * u19) (vx_MQ below (hQi G y0 post) (hX G y0 (fun _ _ _ => False)) args s B (20 * B) (HA y0)) (F0 m 28 ls []) := by
      intro n13
      induction n13 using Nat.strongRecOn with
      | _ n13 ih15 =>
        intro y14 u19 x17 x18 hw H locs ls hI hl
        replace hw := hb49 n13 y14 u19 x17 x18 hw
        obtain ⟨hu, hw⟩ := hw
        refine lv_iload E.1 E.2.1 dX1_matters_28 (lv_at hl 4 rfl) ?_
        refine hv_aload_n (r := some a0) E.1 E.2.1 dX1_matters_30 rfl (lv_at hl 0 rfl) ?_
        obtain ⟨f21, ⟨fs, hfs, hfk⟩, hw⟩ := hw
        refine hv_get (v := va_rf f21) E hK hI ciX1 3 (Nat.le_of_ble_eq_true rfl) q1423 (fun _ h => h) (Or.inl hfs) hfk dX1_matters_31 ?_
        refine lv_iload_n E.1 E.2.1 dX1_matters_34 rfl (lv_at hl 1 rfl) ?_
        obtain ⟨a22, ea22, hw⟩ := hw
        revert hl hw; subst ea22; intro hl hw
        obtain ⟨⟨fs25, hrv⟩, hw⟩ := hw
        have hq := hw
        clear hw
        refine hv_callq (u := u19) (B1 := 0) hI (vx_runV (As := [.int (i1)]) (rest := [.int (x18)]) E (met_J2_get l G (d + 60) hq) (cwV 1 E.2.2.2.2 (lw_V q1495 q785 q786 q124 q787) rfl rfl rfl hd_J2_get (rm_ok (by omega) (by decide))) (hv_preV hK hI hrv rfl) rfl rfl hl.1 rfl (lv_room (by first | rfl | decide | (simp [va_rf_cat, int_cat, long_cat]; done) | (simp [va_rf_cat, int_cat, long_cat]; decide))) dX1_matters_35 (hv_fit (by first | exact hu | omega))) (fun _ _ _ _ _ h => h.elim) (fun r24 y23 H locs hw hI => ?_)
        obtain ⟨hof, hw⟩ := hw
        refine hv_castC (cn := 17) E hK hI (by decide) q1454 hof dX1_matters_38 ?_
        obtain ⟨a26, ea26, hw⟩ := hw
        revert hl hw; subst ea26; intro hl hw
        obtain ⟨⟨fs29, hrv⟩, hw⟩ := hw
        have hq := hw
        clear hw
        refine hv_calli (u := u19) (B1 := 0) hI (vx_runV (As := []) (rest := [.int (x18)]) E (met_X19_codes l G (d + 61) hq) (cwV 0 E.2.2.2.2 (lw_V q1686 q1687 q1688 q163 q1689) rfl rfl rfl hd_X19_codes (rm_ok (by omega) (by decide))) (hv_preV hK hI hrv rfl) rfl rfl hl.1 rfl (lv_room (by first | rfl | decide | (simp [va_rf_cat, int_cat, long_cat]; done) | (simp [va_rf_cat, int_cat, long_cat]; decide))) dX1_matters_41 (hv_fit (by first | exact hu | omega))) (fun _ _ _ _ _ h => h.elim) (fun x28 y27 H locs hw hI => ?_)
        refine lv_icmp_ge (tgt := 89) E.1 E.2.1 dX1_matters_44 (by decide) (fun c30 => ?_) (fun c30 => ?_)
        · replace hw := hw.1 (c30)
          refine lv_iload_n E.1 E.2.1 dX1_matters_89 rfl (lv_at hl 3 rfl) ?_
          exact hv_ireti E hr hlocks hI hu hw dX1_matters_90
        · replace hw := hw.2 (c30)
          refine lv_iload_n E.1 E.2.1 dX1_matters_47 rfl (lv_at hl 3 rfl) ?_
          refine hv_aload_n (r := some a0) E.1 E.2.1 dX1_matters_48 rfl (lv_at hl 0 rfl) ?_
          refine lv_iload_n E.1 E.2.1 dX1_matters_49 rfl (lv_at hl 1 rfl) ?_
          refine hv_aload_n (r := some a0) E.1 E.2.1 dX1_matters_50 rfl (lv_at hl 0 rfl) ?_
          obtain ⟨f31, ⟨fs, hfs, hfk⟩, hw⟩ := hw
          refine hv_get (v := va_rf f31) E hK hI ciX1 3 (Nat.le_of_ble_eq_true rfl) q1423 (fun _ h => h) (Or.inl hfs) hfk dX1_matters_51 ?_
          refine lv_iload_n E.1 E.2.1 dX1_matters_54 rfl (lv_at hl 1 rfl) ?_
          obtain ⟨a32, ea32, hw⟩ := hw
          revert hl hw; subst ea32; intro hl hw
          obtain ⟨⟨fs35, hrv⟩, hw⟩ := hw
          have hq := hw
          clear hw
          refine hv_callq (u := u19) (B1 := 0) hI (vx_runV (As := [.int (i1)]) (rest := [.int (i1), va_rf (some a0), .int (x17)]) E (met_J2_get l G (d + 60) hq) (cwV 1 E.2.2.2.2 (lw_V q1495 q785 q786 q124 q787) rfl rfl rfl hd_J2_get (rm_ok (by omega) (by decide))) (hv_preV hK hI hrv rfl) rfl rfl hl.1 rfl (lv_room (by first | rfl | decide | (simp [va_rf_cat, int_cat, long_cat]; done) | (simp [va_rf_cat, int_cat, long_cat]; decide))) dX1_matters_55 (hv_fit (by first | exact hu | omega))) (fun _ _ _ _ _ h => h.elim) (fun r34 y33 H locs hw hI => ?_)
          obtain ⟨hof, hw⟩ := hw
          refine hv_castC (cn := 17) E hK hI (by decide) q1454 hof dX1_matters_58 ?_
          refine lv_iload E.1 E.2.1 dX1_matters_61 (lv_at hl 4 rfl) ?_
          obtain ⟨a36, ea36, hw⟩ := hw
          revert hl hw; subst ea36; intro hl hw
          obtain ⟨⟨fs39, hrv⟩, hw⟩ := hw
          have hq := hw
          clear hw
          refine hv_calli (u := u19) (B1 := 0) hI (vx_runV (As := [.int (x18)]) (rest := [.int (i1), va_rf (some a0), .int (x17)]) E (met_X19_codeAt l G (d + 59) hq) (cwV 1 E.2.2.2.2 (lw_V q1690 q1691 q1692 q163 q1693) rfl rfl rfl hd_X19_codeAt (rm_ok (by omega) (by decide))) (hv_preV hK hI hrv rfl) rfl rfl hl.1 rfl (lv_room (by first | rfl | decide | (simp [va_rf_cat, int_cat, long_cat]; done) | (simp [va_rf_cat, int_cat, long_cat]; decide))) dX1_matters_63 (hv_fit (by first | exact hu | omega))) (fun _ _ _ _ _ h => h.elim) (fun x38 y37 H locs hw hI => ?_)
          obtain ⟨⟨fs42, hrv⟩, hw⟩ := hw
          obtain ⟨k43, hB, hw⟩ := hw
          have hq := hw
          clear hw
          refine hv_calli (u := u19) (B1 := k43) hI (vx_runV (As := [.int (i1), .int (x38)]) (rest := [.int (x17)]) E (met_X1_without l htr G (d) hq) (cwV 2 E.2.2.2.2 (lw_V q1694 q1679 q1680 q121 q1681) rfl rfl rfl hd_X1_without (rm_ok (by omega) (by decide))) (hv_preV hK hI hrv rfl) rfl rfl hl.1 rfl (lv_room (by first | rfl | decide | (simp [va_rf_cat, int_cat, long_cat]; done) | (simp [va_rf_cat, int_cat, long_cat]; decide))) dX1_matters_66 (hv_fit (by first | exact hB | omega))) (fun _ _ _ _ _ h => h.elim) (fun x41 y40 H locs hw hI => ?_)
          have hu := hB
          refine lv_iload_n E.1 E.2.1 dX1_matters_69 rfl (lv_at hl 2 rfl) ?_
          refine lv_icmp_eq (tgt := 80) E.1 E.2.1 dX1_matters_70 (by decide) (fun c44 => ?_) (fun c44 => ?_)
          · replace hw := hw.1 (c44)
            refine lv_iconst (v := nI 0) E.1 E.2.1 dX1_matters_80 rfl ?_
            refine lv_ior E.1 E.2.1 dX1_matters_81 ?_
            refine lv_topi (fun x45 ex45 => ?_)
            replace hw := hw x45 ex45
            refine lv_istore_n (lv' := [(3, .int (x45)), (0, va_rf (some a0)), (1, .int (i1)), (2, .int (x10)), (4, .int (x18))]) E.1 E.2.1 dX1_matters_82 rfl hl (Nat.le_of_ble_eq_true rfl) (by first | rfl | decide | (simp [va_rf_cat, int_cat, long_cat]; done) | (simp [va_rf_cat, int_cat, long_cat]; decide)) (fun ls hl => ?_)
            refine lv_iinc (k := 4) (v := x18 + nI 1) (lv' := [(4, .int (x18 + nI 1)), (3, .int (x45)), (0, va_rf (some a0)), (1, .int (i1)), (2, .int (x10))]) E.1 E.2.1 dX1_matters_83 hl rfl rfl (Nat.le_of_ble_eq_true rfl) (by first | rfl | decide | (simp [va_rf_cat, int_cat, long_cat]; done) | (simp [va_rf_cat, int_cat, long_cat]; decide)) (fun ls hl => ?_)
            refine lv_goto (tgt := 28) E.1 E.2.1 dX1_matters_86 (by decide) ?_
            obtain ⟨n46, hnn46, hin46⟩ := hw
            exact ih15 n46 hnn46 _ _ _ _ hin46 _ _ _ hI (lv_sub hl [2, 3, 4, 1, 0] rfl)
          · replace hw := hw.2 (c44)
            refine lv_iconst (v := nI 1) E.1 E.2.1 dX1_matters_73 rfl ?_
            refine lv_iload E.1 E.2.1 dX1_matters_74 (lv_at hl 4 rfl) ?_
            refine lv_ishl E.1 E.2.1 dX1_matters_76 ?_
            refine lv_goto (tgt := 81) E.1 E.2.1 dX1_matters_77 (by decide) ?_
            refine lv_ior E.1 E.2.1 dX1_matters_81 ?_
            refine lv_topi (fun x47 ex47 => ?_)
            replace hw := hw x47 ex47
            refine lv_istore_n (lv' := [(3, .int (x47)), (0, va_rf (some a0)), (1, .int (i1)), (2, .int (x10)), (4, .int (x18))]) E.1 E.2.1 dX1_matters_82 rfl hl (Nat.le_of_ble_eq_true rfl) (by first | rfl | decide | (simp [va_rf_cat, int_cat, long_cat]; done) | (simp [va_rf_cat, int_cat, long_cat]; decide)) (fun ls hl => ?_)
            refine lv_iinc (k := 4) (v := x18 + nI 1) (lv' := [(4, .int (x18 + nI 1)), (3, .int (x47)), (0, va_rf (some a0)), (1, .int (i1)), (2, .int (x10))]) E.1 E.2.1 dX1_matters_83 hl rfl rfl (Nat.le_of_ble_eq_true rfl) (by first | rfl | decide | (simp [va_rf_cat, int_cat, long_cat]; done) | (simp [va_rf_cat, int_cat, long_cat]; decide)) (fun ls hl => ?_)
            refine lv_goto (tgt := 28) E.1 E.2.1 dX1_matters_86 (by decide) ?_
            obtain ⟨n48, hnn48, hin48⟩ := hw
            exact ih15 n48 hnn48 _ _ _ _ hin48 _ _ _ hI (lv_sub hl [2, 3, 4, 1, 0] rfl)
    exact L16 n20 _ _ _ _ hi50 _ _ _ hI (lv_sub hl [3, 4, 2, 1, 0] rfl)
  · replace hw := hw.2 (bi_z c4)
    refine lv_iconst (v := (-1)) E.1 E.2.1 dX1_matters_8 rfl ?_
    exact hv_ireti E hr hlocks hI hu hw dX1_matters_9
/-- CaseGrouper.raises(I)I -/
def wp_X1_raises (G : GP) (B : Nat) (post : Int32 → HS → Prop) (y0 : HS) (a0 : Nat) (i1 : Int32) : Prop := (∃ fs3, rd G y0 a0 (ob 0 fs3)) ∧ wp_X1_isStay G (fun b2 y1 => (b2 = true → (∃ fs6, rd G y1 a0 (ob 0 fs6)) ∧ wp_X1_looks G (fun y5 => ∃ f7, fR y5 a0 0 6 f7 ∧ ∃ a8, f7 = some a8 ∧ (∃ fs11, rd G y5 a8 (ob 2 fs11)) ∧ wp_X4_weight G (fun x10 y9 => ∃ I12 : Nat → HS → Nat → Int32 → Prop, (∃ n19, I12 n19 y9 0 (nI 0)) ∧ ∀ (n13 : Nat) (y14 : HS) (u18 : Nat) (x17 : Int32), I12 n13 y14 u18 x17 → u18 ≤ B ∧ ((nI 1499) < x17 → post ((-1)) y14) ∧ (¬ (nI 1499) < x17 → (∃ fs23, rd G y14 a0 (ob 0 fs23)) ∧ ∃ k24, u18 + k24 ≤ B ∧ wp_X1_with G k24 (fun x22 y21 => (x22 = ((-2)) → ∃ n26, n26 < n13 ∧ I12 n26 y21 ((u18 + k24)) (x17 + nI 1)) ∧ (¬ x22 = ((-2)) → ∃ f27, fR y21 a0 0 6 f27 ∧ ∃ a28, f27 = some a28 ∧ (∃ fs31, rd G y21 a28 (ob 2 fs31)) ∧ wp_X4_weight G (fun x30 y29 => (x30 ≤ x10 → ∃ n33, n33 < n13 ∧ I12 n33 y29 ((u18 + k24)) (x17 + nI 1)) ∧ (¬ x30 ≤ x10 → post x17 y29)) y21 a28)) y14 a0 i1 x17)) y5 a8) y1 a0 i1) ∧ (b2 = false → post ((-1)) y1)) y0 a0 i1
theorem hs_X1_raises : yX1_raises.cls ≠ "java/lang/invoke/MethodHandle" ∧ yX1_raises.cls ≠ "java/lang/invoke/VarHandle" ∧ (parseMethodDescriptor yX1_raises.desc).map (fun d => d.parameters.length) = some 1 := by decide +kernel
theorem hd_X1_raises : yX1_raises.cls = RX1 ∧ yX1_raises.cls ≠ "java/lang/invoke/MethodHandle" ∧ yX1_raises.cls ≠ "java/lang/invoke/VarHandle" ∧ (parseMethodDescriptor yX1_raises.desc).map (fun d => d.parameters.length) = some 1 := by decide +kernel
set_option maxHeartbeats 4000000 in
theorem met_X1_raises (l : Launch) (htr : l.stackTraces = false) (G : GP) (d : Nat) {B : Nat} {post : Int32 → HS → Prop} {y0 : HS} {a0 : Nat} {i1 : Int32} (hw : wp_X1_raises G B post y0 a0 i1) : vx_Met l yX1_raises (ws_ yX1_raises cX1_raises 4 (some .int)) (rmB (d + 63) B) (hPc G y0 [va_rf (some a0), .int (i1)]) (hQi G y0 post) (hX G y0 (fun _ _ _ => False)) B (20 * B) (HA y0) := by
  unfold wp_X1_raises at hw
  refine hv_met (own := RX1) (by decide) rfl (Nat.le_of_ble_eq_true rfl) ?_
  intro p e s m args below meth c ls E hr hlocks hnm hE hK hI hl
  replace hl : lv_has ls 4 [(0, va_rf (some a0)), (1, .int (i1))] := hl
  have hu : 0 ≤ B := Nat.zero_le _
  refine hv_aload_n (r := some a0) E.1 E.2.1 dX1_raises_0 rfl (lv_at hl 0 rfl) ?_
  refine lv_iload_n E.1 E.2.1 dX1_raises_1 rfl (lv_at hl 1 rfl) ?_
  obtain ⟨⟨fs3, hrv⟩, hw⟩ := hw
  have hq := hw
  clear hw
  refine hv_callz (u := 0) (B1 := 0) hI (vx_runV (As := [.int (i1)]) (rest := []) E (met_X1_isStay l htr G (d + 61) hq) (cwV 1 E.2.2.2.2 (lw_V q1491 q1493 qs44 q121 q1494) rfl rfl rfl hd_X1_isStay (rm_ok (by omega) (by decide))) (hv_preV hK hI hrv rfl) rfl rfl hl.1 rfl (lv_room (by first | rfl | decide | (simp [va_rf_cat, int_cat, long_cat]; done) | (simp [va_rf_cat, int_cat, long_cat]; decide))) dX1_raises_2 (hv_fit (by first | exact hu | omega))) (fun _ _ _ _ _ h => h.elim) (fun b2 y1 H locs hw hI => ?_)
  refine lv_if_ne (tgt := 10) E.1 E.2.1 dX1_raises_5 (by decide) (fun c4 => ?_) (fun c4 => ?_)
  · replace hw := hw.1 (bi_n c4)
    refine hv_aload_n (r := some a0) E.1 E.2.1 dX1_raises_10 rfl (lv_at hl 0 rfl) ?_
    refine lv_iload_n E.1 E.2.1 dX1_raises_11 rfl (lv_at hl 1 rfl) ?_
    obtain ⟨⟨fs6, hrv⟩, hw⟩ := hw
    have hq := hw
    clear hw
    refine hv_callv (u := 0) (B1 := 0) hI (vx_runV (As := [.int (i1)]) (rest := []) E (met_X1_looks l htr G (d + 1) hq) (cwV 1 E.2.2.2.2 (lw_V q1611 q1613 qs47 q121 q1614) rfl rfl rfl hd_X1_looks (rm_ok (by omega) (by decide))) (hv_preV hK hI hrv rfl) rfl rfl hl.1 rfl (lv_room (by first | rfl | decide | (simp [va_rf_cat, int_cat, long_cat]; done) | (simp [va_rf_cat, int_cat, long_cat]; decide))) dX1_raises_12 (hv_fit (by first | exact hu | omega))) (fun _ _ _ _ _ h => h.elim) (fun y5 H locs hw hI => ?_)
    refine hv_aload_n (r := some a0) E.1 E.2.1 dX1_raises_15 rfl (lv_at hl 0 rfl) ?_
    obtain ⟨f7, ⟨fs, hfs, hfk⟩, hw⟩ := hw
    refine hv_get (v := va_rf f7) E hK hI ciX1 6 (Nat.le_of_ble_eq_true rfl) q1426 (fun _ h => h) (Or.inl hfs) hfk dX1_raises_16 ?_
    obtain ⟨a8, ea8, hw⟩ := hw
    revert hl hw; subst ea8; intro hl hw
    obtain ⟨⟨fs11, hrv⟩, hw⟩ := hw
    have hq := hw
    clear hw
    refine hv_calli (u := 0) (B1 := 0) hI (vx_runV (As := []) (rest := []) E (met_X4_weight l G (d + 62) hq) (cwV 0 E.2.2.2.2 (lw_V q1659 q1660 q1661 q127 q1662) rfl rfl rfl hd_X4_weight (rm_ok (by omega) (by decide))) (hv_preV hK hI hrv rfl) rfl rfl hl.1 rfl (lv_room (by first | rfl | decide | (simp [va_rf_cat, int_cat, long_cat]; done) | (simp [va_rf_cat, int_cat, long_cat]; decide))) dX1_raises_19 (hv_fit (by first | exact hu | omega))) (fun _ _ _ _ _ h => h.elim) (fun x10 y9 H locs hw hI => ?_)
    refine lv_istore_n (lv' := [(2, .int (x10)), (0, va_rf (some a0)), (1, .int (i1))]) E.1 E.2.1 dX1_raises_22 rfl hl (Nat.le_of_ble_eq_true rfl) (by first | rfl | decide | (simp [va_rf_cat, int_cat, long_cat]; done) | (simp [va_rf_cat, int_cat, long_cat]; decide)) (fun ls hl => ?_)
    refine lv_iconst (v := nI 0) E.1 E.2.1 dX1_raises_23 rfl ?_
    refine lv_istore_n (lv' := [(3, .int (nI 0)), (2, .int (x10)), (0, va_rf (some a0)), (1, .int (i1))]) E.1 E.2.1 dX1_raises_24 rfl hl (Nat.le_of_ble_eq_true rfl) (by first | rfl | decide | (simp [va_rf_cat, int_cat, long_cat]; done) | (simp [va_rf_cat, int_cat, long_cat]; decide)) (fun ls hl => ?_)
    obtain ⟨I12, ⟨n19, hi35⟩, hb34⟩ := hw
    have L16 : ∀ (n13 : Nat) (y14 : HS) (u18 : Nat) (x17 : Int32), I12 n13 y14 u18 x17 → ∀ (H : Heap) (locs : List Loc) (ls : Array Slot), HI G y0 y14 s H locs → lv_has ls 4 [(0, va_rf (some a0)), (1, .int (i1)), (2, .int (x10)), (3, .int (x17))] → W p l e (rmB (d + 63) B) s m args below meth c H locs u18 (20 * u18) (vx_MQ below (hQi G y0 post) (hX G y0 (fun _ _ _ => False)) args s B (20 * B) (HA y0)) (F0 m 25 ls []) := by
      intro n13
      induction n13 using Nat.strongRecOn with
      | _ n13 ih15 =>
        intro y14 u18 x17 hw H locs ls hI hl
        replace hw := hb34 n13 y14 u18 x17 hw
        obtain ⟨hu, hw⟩ := hw
        refine lv_iload_n E.1 E.2.1 dX1_raises_25 rfl (lv_at hl 3 rfl) ?_
        refine lv_sipush (v := nI 1499) E.1 E.2.1 dX1_raises_26 rfl ?_
        refine lv_icmp_gt (tgt := 62) E.1 E.2.1 dX1_raises_29 (by decide) (fun c20 => ?_) (fun c20 => ?_)
        · replace hw := hw.1 (c20)
          refine lv_iconst (v := (-1)) E.1 E.2.1 dX1_raises_62 rfl ?_
          exact hv_ireti E hr hlocks hI hu hw dX1_raises_63
        · replace hw := hw.2 (c20)
          refine hv_aload_n (r := some a0) E.1 E.2.1 dX1_raises_32 rfl (lv_at hl 0 rfl) ?_
          refine lv_iload_n E.1 E.2.1 dX1_raises_33 rfl (lv_at hl 1 rfl) ?_
          refine lv_iload_n E.1 E.2.1 dX1_raises_34 rfl (lv_at hl 3 rfl) ?_
          obtain ⟨⟨fs23, hrv⟩, hw⟩ := hw
          obtain ⟨k24, hB, hw⟩ := hw
          have hq := hw
          clear hw
          refine hv_calli (u := u18) (B1 := k24) hI (vx_runV (As := [.int (i1), .int (x17)]) (rest := []) E (met_X1_with l htr G (d) hq) (cwV 2 E.2.2.2.2 (lw_V q1699 q1675 q1676 q121 q1677) rfl rfl rfl hd_X1_with (rm_ok (by omega) (by decide))) (hv_preV hK hI hrv rfl) rfl rfl hl.1 rfl (lv_room (by first | rfl | decide | (simp [va_rf_cat, int_cat, long_cat]; done) | (simp [va_rf_cat, int_cat, long_cat]; decide))) dX1_raises_35 (hv_fit (by first | exact hB | omega))) (fun _ _ _ _ _ h => h.elim) (fun x22 y21 H locs hw hI => ?_)
          have hu := hB
          refine lv_bipush (v := (-2)) E.1 E.2.1 dX1_raises_38 rfl ?_
          refine lv_icmp_eq (tgt := 56) E.1 E.2.1 dX1_raises_40 (by decide) (fun c25 => ?_) (fun c25 => ?_)
          · replace hw := hw.1 (c25)
            refine lv_iinc (k := 3) (v := x17 + nI 1) (lv' := [(3, .int (x17 + nI 1)), (0, va_rf (some a0)), (1, .int (i1)), (2, .int (x10))]) E.1 E.2.1 dX1_raises_56 hl rfl rfl (Nat.le_of_ble_eq_true rfl) (by first | rfl | decide | (simp [va_rf_cat, int_cat, long_cat]; done) | (simp [va_rf_cat, int_cat, long_cat]; decide)) (fun ls hl => ?_)
            refine lv_goto (tgt := 25) E.1 E.2.1 dX1_raises_59 (by decide) ?_
            obtain ⟨n26, hnn26, hin26⟩ := hw
            exact ih15 n26 hnn26 _ _ _ hin26 _ _ _ hI (lv_sub hl [1, 2, 3, 0] rfl)
          · replace hw := hw.2 (c25)
            refine hv_aload_n (r := some a0) E.1 E.2.1 dX1_raises_43 rfl (lv_at hl 0 rfl) ?_
            obtain ⟨f27, ⟨fs, hfs, hfk⟩, hw⟩ := hw
            refine hv_get (v := va_rf f27) E hK hI ciX1 6 (Nat.le_of_ble_eq_true rfl) q1426 (fun _ h => h) (Or.inl hfs) hfk dX1_raises_44 ?_
            obtain ⟨a28, ea28, hw⟩ := hw
            revert hl hw; subst ea28; intro hl hw
            obtain ⟨⟨fs31, hrv⟩, hw⟩ := hw
            have hq := hw
            clear hw
            refine hv_calli (u := ((u18 + k24))) (B1 := 0) hI (vx_runV (As := []) (rest := []) E (met_X4_weight l G (d + 62) hq) (cwV 0 E.2.2.2.2 (lw_V q1659 q1660 q1661 q127 q1662) rfl rfl rfl hd_X4_weight (rm_ok (by omega) (by decide))) (hv_preV hK hI hrv rfl) rfl rfl hl.1 rfl (lv_room (by first | rfl | decide | (simp [va_rf_cat, int_cat, long_cat]; done) | (simp [va_rf_cat, int_cat, long_cat]; decide))) dX1_raises_47 (hv_fit (by first | exact hu | omega))) (fun _ _ _ _ _ h => h.elim) (fun x30 y29 H locs hw hI => ?_)
            refine lv_iload_n E.1 E.2.1 dX1_raises_50 rfl (lv_at hl 2 rfl) ?_
            refine lv_icmp_le (tgt := 56) E.1 E.2.1 dX1_raises_51 (by decide) (fun c32 => ?_) (fun c32 => ?_)
            · replace hw := hw.1 (c32)
              refine lv_iinc (k := 3) (v := x17 + nI 1) (lv' := [(3, .int (x17 + nI 1)), (0, va_rf (some a0)), (1, .int (i1)), (2, .int (x10))]) E.1 E.2.1 dX1_raises_56 hl rfl rfl (Nat.le_of_ble_eq_true rfl) (by first | rfl | decide | (simp [va_rf_cat, int_cat, long_cat]; done) | (simp [va_rf_cat, int_cat, long_cat]; decide)) (fun ls hl => ?_)
              refine lv_goto (tgt := 25) E.1 E.2.1 dX1_raises_59 (by decide) ?_
              obtain ⟨n33, hnn33, hin33⟩ := hw
              exact ih15 n33 hnn33 _ _ _ hin33 _ _ _ hI (lv_sub hl [1, 2, 3, 0] rfl)
            · replace hw := hw.2 (c32)
              refine lv_iload_n E.1 E.2.1 dX1_raises_54 rfl (lv_at hl 3 rfl) ?_
              exact hv_ireti E hr hlocks hI hu hw dX1_raises_55
    exact L16 n19 _ _ _ hi35 _ _ _ hI (lv_sub hl [2, 3, 1, 0] rfl)
  · replace hw := hw.2 (bi_z c4)
    refine lv_iconst (v := (-1)) E.1 E.2.1 dX1_raises_8 rfl ?_
    exact hv_ireti E hr hlocks hI hu hw dX1_raises_9
/-- CaseGrouper.leavesOf(I)I -/
def wp_X1_leavesOf (G : GP) (post : Int32 → HS → Prop) (y0 : HS) (a0 : Nat) (i1 : Int32) : Prop := ∃ I1 : Nat → HS → Int32 → Int32 → Prop, (∃ n8, I1 n8 y0 (nI 0) (nI 0)) ∧ ∀ (n2 : Nat) (y3 : HS) (x6 : Int32) (x7 : Int32), I1 n2 y3 x6 x7 → ∃ f9, fR y3 a0 0 4 f9 ∧ ∃ a10, f9 = some a10 ∧ ∃ f11, fR y3 a10 1 3 f11 ∧ ∃ a12, f11 = some a12 ∧ (∃ fs15, rd G y3 a12 (ob 18 fs15)) ∧ wp_J2_size G (fun x14 y13 => (x14 ≤ x7 → post x6 y13) ∧ (¬ x14 ≤ x7 → ∃ f17, fR y13 a0 0 4 f17 ∧ ∃ a18, f17 = some a18 ∧ ∃ f19, fR y13 a18 1 3 f19 ∧ ∃ a20, f19 = some a20 ∧ (∃ fs23, rd G y13 a20 (ob 18 fs23)) ∧ wp_J2_get G (fun r22 y21 => isOf G y21 r22 11 ∧ ∃ a24, r22 = some a24 ∧ ∃ f25, fI y21 a24 11 0 f25 ∧ (¬ f25 = i1 → ∀ x27, x27 = x6 + (nI 0) → ∃ n28, n28 < n2 ∧ I1 n28 y21 x27 (x7 + nI 1)) ∧ (f25 = i1 → ∀ x29, x29 = x6 + (nI 1) → ∃ n30, n30 < n2 ∧ I1 n30 y21 x29 (x7 + nI 1))) y13 a20 x7)) y3 a12
theorem hs_X1_leavesOf : yX1_leavesOf.cls ≠ "java/lang/invoke/MethodHandle" ∧ yX1_leavesOf.cls ≠ "java/lang/invoke/VarHandle" ∧ (parseMethodDescriptor yX1_leavesOf.desc).map (fun d => d.parameters.length) = some 1 := by decide +kernel
theorem hd_X1_leavesOf : yX1_leavesOf.cls = RX1 ∧ yX1_leavesOf.cls ≠ "java/lang/invoke/MethodHandle" ∧ yX1_leavesOf.cls ≠ "java/lang/invoke/VarHandle" ∧ (parseMethodDescriptor yX1_leavesOf.desc).map (fun d => d.parameters.length) = some 1 := by decide +kernel
set_option maxHeartbeats 4000000 in
theorem met_X1_leavesOf (l : Launch) (htr : l.stackTraces = false) (G : GP) (d : Nat) {post : Int32 → HS → Prop} {y0 : HS} {a0 : Nat} {i1 : Int32} (hw : wp_X1_leavesOf G post y0 a0 i1) : vx_Met l yX1_leavesOf (ws_ yX1_leavesOf cX1_leavesOf 4 (some .int)) (rmB (d + 3) 0) (hPc G y0 [va_rf (some a0), .int (i1)]) (hQi G y0 post) (hX G y0 (fun _ _ _ => False)) 0 (20 * 0) (HA y0) := by
  unfold wp_X1_leavesOf at hw
  refine hv_met (own := RX1) (by decide) rfl (Nat.le_of_ble_eq_true rfl) ?_
  intro p e s m args below meth c ls E hr hlocks hnm hE hK hI hl
  replace hl : lv_has ls 4 [(0, va_rf (some a0)), (1, .int (i1))] := hl
  refine lv_iconst (v := nI 0) E.1 E.2.1 dX1_leavesOf_0 rfl ?_
  refine lv_istore_n (lv' := [(2, .int (nI 0)), (0, va_rf (some a0)), (1, .int (i1))]) E.1 E.2.1 dX1_leavesOf_1 rfl hl (Nat.le_of_ble_eq_true rfl) (by first | rfl | decide | (simp [va_rf_cat, int_cat, long_cat]; done) | (simp [va_rf_cat, int_cat, long_cat]; decide)) (fun ls hl => ?_)
  refine lv_iconst (v := nI 0) E.1 E.2.1 dX1_leavesOf_2 rfl ?_
  refine lv_istore_n (lv' := [(3, .int (nI 0)), (2, .int (nI 0)), (0, va_rf (some a0)), (1, .int (i1))]) E.1 E.2.1 dX1_leavesOf_3 rfl hl (Nat.le_of_ble_eq_true rfl) (by first | rfl | decide | (simp [va_rf_cat, int_cat, long_cat]; done) | (simp [va_rf_cat, int_cat, long_cat]; decide)) (fun ls hl => ?_)
  obtain ⟨I1, ⟨n8, hi32⟩, hb31⟩ := hw
  have L5 : ∀ (n2 : Nat) (y3 : HS) (x6 : Int32) (x7 : Int32), I1 n2 y3 x6 x7 → ∀ (H : Heap) (locs : List Loc) (ls : Array Slot), HI G y0 y3 s H locs → lv_has ls 4 [(0, va_rf (some a0)), (1, .int (i1)), (2, .int (x6)), (3, .int (x7))] → W p l e (rmB (d + 3) 0) s m args below meth c H locs 0 (20 * 0) (vx_MQ below (hQi G y0 post) (hX G y0 (fun _ _ _ => False)) args s 0 (20 * 0) (HA y0)) (F0 m 4 ls []) := by
    intro n2
    induction n2 using Nat.strongRecOn with
    | _ n2 ih4 =>
      intro y3 x6 x7 hw H locs ls hI hl
      replace hw := hb31 n2 y3 x6 x7 hw
      refine lv_iload_n E.1 E.2.1 dX1_leavesOf_4 rfl (lv_at hl 3 rfl) ?_
      refine hv_aload_n (r := some a0) E.1 E.2.1 dX1_leavesOf_5 rfl (lv_at hl 0 rfl) ?_
      obtain ⟨f9, ⟨fs, hfs, hfk⟩, hw⟩ := hw
      refine hv_get (v := va_rf f9) E hK hI ciX1 4 (Nat.le_of_ble_eq_true rfl) q1424 (fun _ h => h) (Or.inl hfs) hfk dX1_leavesOf_6 ?_
      obtain ⟨a10, ea10, hw⟩ := hw
      revert hl hw; subst ea10; intro hl hw
      obtain ⟨f11, ⟨fs, hfs, hfk⟩, hw⟩ := hw
      refine hv_getN (v := va_rf f11) E hK hI ciX2 3 (Nat.le_of_ble_eq_true rfl) q243 (fun _ h => h) (Or.inl hfs) hfk dX1_leavesOf_9 ?_
      obtain ⟨a12, ea12, hw⟩ := hw
      revert hl hw; subst ea12; intro hl hw
      obtain ⟨⟨fs15, hrv⟩, hw⟩ := hw
      have hq := hw
      clear hw
      refine hv_calli (u := 0) (B1 := 0) hI (vx_runV (As := []) (rest := [.int (x7)]) E (met_J2_size l G (d + 2) hq) (cwV 0 E.2.2.2.2 (lw_V q1453 q752 q753 q124 q754) rfl rfl rfl hd_J2_size (rm_ok (by omega) (by decide))) (hv_preV hK hI hrv rfl) rfl rfl hl.1 rfl (lv_room (by first | rfl | decide | (simp [va_rf_cat, int_cat, long_cat]; done) | (simp [va_rf_cat, int_cat, long_cat]; decide))) dX1_leavesOf_12 (hv_fit (by first | exact (Nat.le_refl 0) | omega))) (fun _ _ _ _ _ h => h.elim) (fun x14 y13 H locs hw hI => ?_)
      refine lv_icmp_ge (tgt := 53) E.1 E.2.1 dX1_leavesOf_15 (by decide) (fun c16 => ?_) (fun c16 => ?_)
      · replace hw := hw.1 (c16)
        refine lv_iload_n E.1 E.2.1 dX1_leavesOf_53 rfl (lv_at hl 2 rfl) ?_
        exact hv_ireti E hr hlocks hI (Nat.le_refl 0) hw dX1_leavesOf_54
      · replace hw := hw.2 (c16)
        refine lv_iload_n E.1 E.2.1 dX1_leavesOf_18 rfl (lv_at hl 2 rfl) ?_
        refine hv_aload_n (r := some a0) E.1 E.2.1 dX1_leavesOf_19 rfl (lv_at hl 0 rfl) ?_
        obtain ⟨f17, ⟨fs, hfs, hfk⟩, hw⟩ := hw
        refine hv_get (v := va_rf f17) E hK hI ciX1 4 (Nat.le_of_ble_eq_true rfl) q1424 (fun _ h => h) (Or.inl hfs) hfk dX1_leavesOf_20 ?_
        obtain ⟨a18, ea18, hw⟩ := hw
        revert hl hw; subst ea18; intro hl hw
        obtain ⟨f19, ⟨fs, hfs, hfk⟩, hw⟩ := hw
        refine hv_getN (v := va_rf f19) E hK hI ciX2 3 (Nat.le_of_ble_eq_true rfl) q243 (fun _ h => h) (Or.inl hfs) hfk dX1_leavesOf_23 ?_
        refine lv_iload_n E.1 E.2.1 dX1_leavesOf_26 rfl (lv_at hl 3 rfl) ?_
        obtain ⟨a20, ea20, hw⟩ := hw
        revert hl hw; subst ea20; intro hl hw
        obtain ⟨⟨fs23, hrv⟩, hw⟩ := hw
        have hq := hw
        clear hw
        refine hv_callq (u := 0) (B1 := 0) hI (vx_runV (As := [.int (x7)]) (rest := [.int (x6)]) E (met_J2_get l G (d) hq) (cwV 1 E.2.2.2.2 (lw_V q1495 q785 q786 q124 q787) rfl rfl rfl hd_J2_get (rm_ok (by omega) (by decide))) (hv_preV hK hI hrv rfl) rfl rfl hl.1 rfl (lv_room (by first | rfl | decide | (simp [va_rf_cat, int_cat, long_cat]; done) | (simp [va_rf_cat, int_cat, long_cat]; decide))) dX1_leavesOf_27 (hv_fit (by first | exact (Nat.le_refl 0) | omega))) (fun _ _ _ _ _ h => h.elim) (fun r22 y21 H locs hw hI => ?_)
        obtain ⟨hof, hw⟩ := hw
        refine hv_castC (cn := 11) E hK hI (by decide) q1708 hof dX1_leavesOf_30 ?_
        obtain ⟨a24, ea24, hw⟩ := hw
        revert hl hw; subst ea24; intro hl hw
        obtain ⟨f25, ⟨fs, hfs, hfk⟩, hw⟩ := hw
        refine hv_getN (v := .int f25) E hK hI ciX13 0 (Nat.le_of_ble_eq_true rfl) q1091 (fun _ h => h) (Or.inl hfs) hfk dX1_leavesOf_33 ?_
        refine lv_iload_n E.1 E.2.1 dX1_leavesOf_36 rfl (lv_at hl 1 rfl) ?_
        refine lv_icmp_ne (tgt := 44) E.1 E.2.1 dX1_leavesOf_37 (by decide) (fun c26 => ?_) (fun c26 => ?_)
        · replace hw := hw.1 (c26)
          refine lv_iconst (v := nI 0) E.1 E.2.1 dX1_leavesOf_44 rfl ?_
          refine lv_iadd E.1 E.2.1 dX1_leavesOf_45 ?_
          refine lv_topi (fun x27 ex27 => ?_)
          replace hw := hw x27 ex27
          refine lv_istore_n (lv' := [(2, .int (x27)), (0, va_rf (some a0)), (1, .int (i1)), (3, .int (x7))]) E.1 E.2.1 dX1_leavesOf_46 rfl hl (Nat.le_of_ble_eq_true rfl) (by first | rfl | decide | (simp [va_rf_cat, int_cat, long_cat]; done) | (simp [va_rf_cat, int_cat, long_cat]; decide)) (fun ls hl => ?_)
          refine lv_iinc (k := 3) (v := x7 + nI 1) (lv' := [(3, .int (x7 + nI 1)), (2, .int (x27)), (0, va_rf (some a0)), (1, .int (i1))]) E.1 E.2.1 dX1_leavesOf_47 hl rfl rfl (Nat.le_of_ble_eq_true rfl) (by first | rfl | decide | (simp [va_rf_cat, int_cat, long_cat]; done) | (simp [va_rf_cat, int_cat, long_cat]; decide)) (fun ls hl => ?_)
          refine lv_goto (tgt := 4) E.1 E.2.1 dX1_leavesOf_50 (by decide) ?_
          obtain ⟨n28, hnn28, hin28⟩ := hw
          exact ih4 n28 hnn28 _ _ _ hin28 _ _ _ hI (lv_sub hl [2, 3, 1, 0] rfl)
        · replace hw := hw.2 (c26)
          refine lv_iconst (v := nI 1) E.1 E.2.1 dX1_leavesOf_40 rfl ?_
          refine lv_goto (tgt := 45) E.1 E.2.1 dX1_leavesOf_41 (by decide) ?_
          refine lv_iadd E.1 E.2.1 dX1_leavesOf_45 ?_
          refine lv_topi (fun x29 ex29 => ?_)
          replace hw := hw x29 ex29
          refine lv_istore_n (lv' := [(2, .int (x29)), (0, va_rf (some a0)), (1, .int (i1)), (3, .int (x7))]) E.1 E.2.1 dX1_leavesOf_46 rfl hl (Nat.le_of_ble_eq_true rfl) (by first | rfl | decide | (simp [va_rf_cat, int_cat, long_cat]; done) | (simp [va_rf_cat, int_cat, long_cat]; decide)) (fun ls hl => ?_)
          refine lv_iinc (k := 3) (v := x7 + nI 1) (lv' := [(3, .int (x7 + nI 1)), (2, .int (x29)), (0, va_rf (some a0)), (1, .int (i1))]) E.1 E.2.1 dX1_leavesOf_47 hl rfl rfl (Nat.le_of_ble_eq_true rfl) (by first | rfl | decide | (simp [va_rf_cat, int_cat, long_cat]; done) | (simp [va_rf_cat, int_cat, long_cat]; decide)) (fun ls hl => ?_)
          refine lv_goto (tgt := 4) E.1 E.2.1 dX1_leavesOf_50 (by decide) ?_
          obtain ⟨n30, hnn30, hin30⟩ := hw
          exact ih4 n30 hnn30 _ _ _ hin30 _ _ _ hI (lv_sub hl [2, 3, 1, 0] rfl)
  exact L5 n8 _ _ _ hi32 _ _ _ hI (lv_sub hl [2, 3, 1, 0] rfl)
/-- CaseGrouper.staysOf(I)I -/
def wp_X1_staysOf (G : GP) (post : Int32 → HS → Prop) (y0 : HS) (a0 : Nat) (i1 : Int32) : Prop := ∃ I1 : Nat → HS → Int32 → Int32 → Prop, (∃ n8, I1 n8 y0 (nI 0) (nI 0)) ∧ ∀ (n2 : Nat) (y3 : HS) (x6 : Int32) (x7 : Int32), I1 n2 y3 x6 x7 → ∃ f9, fR y3 a0 0 3 f9 ∧ ∃ a10, f9 = some a10 ∧ (∃ fs13, rd G y3 a10 (ob 18 fs13)) ∧ wp_J2_size G (fun x12 y11 => (x12 ≤ x7 → post x6 y11) ∧ (¬ x12 ≤ x7 → (∃ fs16, rd G y11 a0 (ob 0 fs16)) ∧ wp_X1_looks G (fun y15 => ∃ f17, fR y15 a0 0 6 f17 ∧ ∃ a18, f17 = some a18 ∧ (∃ fs21, rd G y15 a18 (ob 2 fs21)) ∧ wp_X4_cls G (fun x20 y19 => (¬ x20 = i1 → ∀ x23, x23 = x6 + (nI 0) → ∃ n24, n24 < n2 ∧ I1 n24 y19 x23 (x7 + nI 1)) ∧ (x20 = i1 → ∀ x25, x25 = x6 + (nI 1) → ∃ n26, n26 < n2 ∧ I1 n26 y19 x25 (x7 + nI 1))) y15 a18) y11 a0 x7)) y3 a10
theorem hs_X1_staysOf : yX1_staysOf.cls ≠ "java/lang/invoke/MethodHandle" ∧ yX1_staysOf.cls ≠ "java/lang/invoke/VarHandle" ∧ (parseMethodDescriptor yX1_staysOf.desc).map (fun d => d.parameters.length) = some 1 := by decide +kernel
theorem hd_X1_staysOf : yX1_staysOf.cls = RX1 ∧ yX1_staysOf.cls ≠ "java/lang/invoke/MethodHandle" ∧ yX1_staysOf.cls ≠ "java/lang/invoke/VarHandle" ∧ (parseMethodDescriptor yX1_staysOf.desc).map (fun d => d.parameters.length) = some 1 := by decide +kernel
set_option maxHeartbeats 4000000 in
theorem met_X1_staysOf (l : Launch) (htr : l.stackTraces = false) (G : GP) (d : Nat) {post : Int32 → HS → Prop} {y0 : HS} {a0 : Nat} {i1 : Int32} (hw : wp_X1_staysOf G post y0 a0 i1) : vx_Met l yX1_staysOf (ws_ yX1_staysOf cX1_staysOf 4 (some .int)) (rmB (d + 62) 0) (hPc G y0 [va_rf (some a0), .int (i1)]) (hQi G y0 post) (hX G y0 (fun _ _ _ => False)) 0 (20 * 0) (HA y0) := by
  unfold wp_X1_staysOf at hw
  refine hv_met (own := RX1) (by decide) rfl (Nat.le_of_ble_eq_true rfl) ?_
  intro p e s m args below meth c ls E hr hlocks hnm hE hK hI hl
  replace hl : lv_has ls 4 [(0, va_rf (some a0)), (1, .int (i1))] := hl
  refine lv_iconst (v := nI 0) E.1 E.2.1 dX1_staysOf_0 rfl ?_
  refine lv_istore_n (lv' := [(2, .int (nI 0)), (0, va_rf (some a0)), (1, .int (i1))]) E.1 E.2.1 dX1_staysOf_1 rfl hl (Nat.le_of_ble_eq_true rfl) (by first | rfl | decide | (simp [va_rf_cat, int_cat, long_cat]; done) | (simp [va_rf_cat, int_cat, long_cat]; decide)) (fun ls hl => ?_)
  refine lv_iconst (v := nI 0) E.1 E.2.1 dX1_staysOf_2 rfl ?_
  refine lv_istore_n (lv' := [(3, .int (nI 0)), (2, .int (nI 0)), (0, va_rf (some a0)), (1, .int (i1))]) E.1 E.2.1 dX1_staysOf_3 rfl hl (Nat.le_of_ble_eq_true rfl) (by first | rfl | decide | (simp [va_rf_cat, int_cat, long_cat]; done) | (simp [va_rf_cat, int_cat, long_cat]; decide)) (fun ls hl => ?_)
  obtain ⟨I1, ⟨n8, hi28⟩, hb27⟩ := hw
  have L5 : ∀ (n2 : Nat) (y3 : HS) (x6 : Int32) (x7 : Int32), I1 n2 y3 x6 x7 → ∀ (H : Heap) (locs : List Loc) (ls : Array Slot), HI G y0 y3 s H locs → lv_has ls 4 [(0, va_rf (some a0)), (1, .int (i1)), (2, .int (x6)), (3, .int (x7))] → W p l e (rmB (d + 62) 0) s m args below meth c H locs 0 (20 * 0) (vx_MQ below (hQi G y0 post) (hX G y0 (fun _ _ _ => False)) args s 0 (20 * 0) (HA y0)) (F0 m 4 ls []) := by
    intro n2
    induction n2 using Nat.strongRecOn with
    | _ n2 ih4 =>
      intro y3 x6 x7 hw H locs ls hI hl
      replace hw := hb27 n2 y3 x6 x7 hw
      refine lv_iload_n E.1 E.2.1 dX1_staysOf_4 rfl (lv_at hl 3 rfl) ?_
      refine hv_aload_n (r := some a0) E.1 E.2.1 dX1_staysOf_5 rfl (lv_at hl 0 rfl) ?_
      obtain ⟨f9, ⟨fs, hfs, hfk⟩, hw⟩ := hw
      refine hv_get (v := va_rf f9) E hK hI ciX1 3 (Nat.le_of_ble_eq_true rfl) q1423 (fun _ h => h) (Or.inl hfs) hfk dX1_staysOf_6 ?_
      obtain ⟨a10, ea10, hw⟩ := hw
      revert hl hw; subst ea10; intro hl hw
      obtain ⟨⟨fs13, hrv⟩, hw⟩ := hw
      have hq := hw
      clear hw
      refine hv_calli (u := 0) (B1 := 0) hI (vx_runV (As := []) (rest := [.int (x7)]) E (met_J2_size l G (d + 61) hq) (cwV 0 E.2.2.2.2 (lw_V q1453 q752 q753 q124 q754) rfl rfl rfl hd_J2_size (rm_ok (by omega) (by decide))) (hv_preV hK hI hrv rfl) rfl rfl hl.1 rfl (lv_room (by first | rfl | decide | (simp [va_rf_cat, int_cat, long_cat]; done) | (simp [va_rf_cat, int_cat, long_cat]; decide))) dX1_staysOf_9 (hv_fit (by first | exact (Nat.le_refl 0) | omega))) (fun _ _ _ _ _ h => h.elim) (fun x12 y11 H locs hw hI => ?_)
      refine lv_icmp_ge (tgt := 45) E.1 E.2.1 dX1_staysOf_12 (by decide) (fun c14 => ?_) (fun c14 => ?_)
      · replace hw := hw.1 (c14)
        refine lv_iload_n E.1 E.2.1 dX1_staysOf_45 rfl (lv_at hl 2 rfl) ?_
        exact hv_ireti E hr hlocks hI (Nat.le_refl 0) hw dX1_staysOf_46
      · replace hw := hw.2 (c14)
        refine hv_aload_n (r := some a0) E.1 E.2.1 dX1_staysOf_15 rfl (lv_at hl 0 rfl) ?_
        refine lv_iload_n E.1 E.2.1 dX1_staysOf_16 rfl (lv_at hl 3 rfl) ?_
        obtain ⟨⟨fs16, hrv⟩, hw⟩ := hw
        have hq := hw
        clear hw
        refine hv_callv (u := 0) (B1 := 0) hI (vx_runV (As := [.int (x7)]) (rest := []) E (met_X1_looks l htr G (d) hq) (cwV 1 E.2.2.2.2 (lw_V q1611 q1613 qs47 q121 q1614) rfl rfl rfl hd_X1_looks (rm_ok (by omega) (by decide))) (hv_preV hK hI hrv rfl) rfl rfl hl.1 rfl (lv_room (by first | rfl | decide | (simp [va_rf_cat, int_cat, long_cat]; done) | (simp [va_rf_cat, int_cat, long_cat]; decide))) dX1_staysOf_17 (hv_fit (by first | exact (Nat.le_refl 0) | omega))) (fun _ _ _ _ _ h => h.elim) (fun y15 H locs hw hI => ?_)
        refine lv_iload_n E.1 E.2.1 dX1_staysOf_20 rfl (lv_at hl 2 rfl) ?_
        refine hv_aload_n (r := some a0) E.1 E.2.1 dX1_staysOf_21 rfl (lv_at hl 0 rfl) ?_
        obtain ⟨f17, ⟨fs, hfs, hfk⟩, hw⟩ := hw
        refine hv_get (v := va_rf f17) E hK hI ciX1 6 (Nat.le_of_ble_eq_true rfl) q1426 (fun _ h => h) (Or.inl hfs) hfk dX1_staysOf_22 ?_
        obtain ⟨a18, ea18, hw⟩ := hw
        revert hl hw; subst ea18; intro hl hw
        obtain ⟨⟨fs21, hrv⟩, hw⟩ := hw
        have hq := hw
        clear hw
        refine hv_calli (u := 0) (B1 := 0) hI (vx_runV (As := []) (rest := [.int (x6)]) E (met_X4_cls l G (d + 61) hq) (cwV 0 E.2.2.2.2 (lw_V q1655 q1656 q1657 q127 q1658) rfl rfl rfl hd_X4_cls (rm_ok (by omega) (by decide))) (hv_preV hK hI hrv rfl) rfl rfl hl.1 rfl (lv_room (by first | rfl | decide | (simp [va_rf_cat, int_cat, long_cat]; done) | (simp [va_rf_cat, int_cat, long_cat]; decide))) dX1_staysOf_25 (hv_fit (by first | exact (Nat.le_refl 0) | omega))) (fun _ _ _ _ _ h => h.elim) (fun x20 y19 H locs hw hI => ?_)
        refine lv_iload_n E.1 E.2.1 dX1_staysOf_28 rfl (lv_at hl 1 rfl) ?_
        refine lv_icmp_ne (tgt := 36) E.1 E.2.1 dX1_staysOf_29 (by decide) (fun c22 => ?_) (fun c22 => ?_)
        · replace hw := hw.1 (c22)
          refine lv_iconst (v := nI 0) E.1 E.2.1 dX1_staysOf_36 rfl ?_
          refine lv_iadd E.1 E.2.1 dX1_staysOf_37 ?_
          refine lv_topi (fun x23 ex23 => ?_)
          replace hw := hw x23 ex23
          refine lv_istore_n (lv' := [(2, .int (x23)), (0, va_rf (some a0)), (1, .int (i1)), (3, .int (x7))]) E.1 E.2.1 dX1_staysOf_38 rfl hl (Nat.le_of_ble_eq_true rfl) (by first | rfl | decide | (simp [va_rf_cat, int_cat, long_cat]; done) | (simp [va_rf_cat, int_cat, long_cat]; decide)) (fun ls hl => ?_)
          refine lv_iinc (k := 3) (v := x7 + nI 1) (lv' := [(3, .int (x7 + nI 1)), (2, .int (x23)), (0, va_rf (some a0)), (1, .int (i1))]) E.1 E.2.1 dX1_staysOf_39 hl rfl rfl (Nat.le_of_ble_eq_true rfl) (by first | rfl | decide | (simp [va_rf_cat, int_cat, long_cat]; done) | (simp [va_rf_cat, int_cat, long_cat]; decide)) (fun ls hl => ?_)
          refine lv_goto (tgt := 4) E.1 E.2.1 dX1_staysOf_42 (by decide) ?_
          obtain ⟨n24, hnn24, hin24⟩ := hw
          exact ih4 n24 hnn24 _ _ _ hin24 _ _ _ hI (lv_sub hl [2, 3, 1, 0] rfl)
        · replace hw := hw.2 (c22)
          refine lv_iconst (v := nI 1) E.1 E.2.1 dX1_staysOf_32 rfl ?_
          refine lv_goto (tgt := 37) E.1 E.2.1 dX1_staysOf_33 (by decide) ?_
          refine lv_iadd E.1 E.2.1 dX1_staysOf_37 ?_
          refine lv_topi (fun x25 ex25 => ?_)
          replace hw := hw x25 ex25
          refine lv_istore_n (lv' := [(2, .int (x25)), (0, va_rf (some a0)), (1, .int (i1)), (3, .int (x7))]) E.1 E.2.1 dX1_staysOf_38 rfl hl (Nat.le_of_ble_eq_true rfl) (by first | rfl | decide | (simp [va_rf_cat, int_cat, long_cat]; done) | (simp [va_rf_cat, int_cat, long_cat]; decide)) (fun ls hl => ?_)
          refine lv_iinc (k := 3) (v := x7 + nI 1) (lv' := [(3, .int (x7 + nI 1)), (2, .int (x25)), (0, va_rf (some a0)), (1, .int (i1))]) E.1 E.2.1 dX1_staysOf_39 hl rfl rfl (Nat.le_of_ble_eq_true rfl) (by first | rfl | decide | (simp [va_rf_cat, int_cat, long_cat]; done) | (simp [va_rf_cat, int_cat, long_cat]; decide)) (fun ls hl => ?_)
          refine lv_goto (tgt := 4) E.1 E.2.1 dX1_staysOf_42 (by decide) ?_
          obtain ⟨n26, hnn26, hin26⟩ := hw
          exact ih4 n26 hnn26 _ _ _ hin26 _ _ _ hI (lv_sub hl [2, 3, 1, 0] rfl)
  exact L5 n8 _ _ _ hi28 _ _ _ hI (lv_sub hl [2, 3, 1, 0] rfl)
/-- CaseGrouper.ofClass(II)I -/
def wp_X1_ofClass (G : GP) (post : Int32 → HS → Prop) (y0 : HS) (a0 : Nat) (i1 : Int32) (i2 : Int32) : Prop := ∃ f1, fR y0 a0 0 4 f1 ∧ ∃ a2, f1 = some a2 ∧ ∃ f3, fI y0 a2 1 7 f3 ∧ wp_X1_within G (fun b5 y4 => (b5 = true → (i2 = nI 0 → ∃ f8, fR y4 a0 0 4 f8 ∧ ∃ a9, f8 = some a9 ∧ ∃ f10, fR y4 a9 1 6 f10 ∧ ∃ a11, f10 = some a11 ∧ ∃ (n12 : Nat) (g13 : Nat → Int32), rd G y4 a11 (ai 5 n12 g13) ∧ vp_in i1 n12 ∧ post (g13 i1.toNatClampNeg) y4) ∧ (¬ i2 = nI 0 → (i2 = nI 1 → (∃ fs17, rd G y4 a0 (ob 0 fs17)) ∧ wp_X1_leavesOf G (fun x16 y15 => post x16 y15) y4 a0 i1) ∧ (¬ i2 = nI 1 → (i2 = nI 2 → (∃ fs21, rd G y4 a0 (ob 0 fs21)) ∧ wp_X1_staysOf G (fun x20 y19 => post x20 y19) y4 a0 i1) ∧ (¬ i2 = nI 2 → post ((-1)) y4)))) ∧ (b5 = false → post ((-1)) y4)) y0 i1 (nI 0) (f3 - (nI 1))
theorem hs_X1_ofClass : yX1_ofClass.cls ≠ "java/lang/invoke/MethodHandle" ∧ yX1_ofClass.cls ≠ "java/lang/invoke/VarHandle" ∧ (parseMethodDescriptor yX1_ofClass.desc).map (fun d => d.parameters.length) = some 2 := by decide +kernel
theorem hd_X1_ofClass : yX1_ofClass.cls = RX1 ∧ yX1_ofClass.cls ≠ "java/lang/invoke/MethodHandle" ∧ yX1_ofClass.cls ≠ "java/lang/invoke/VarHandle" ∧ (parseMethodDescriptor yX1_ofClass.desc).map (fun d => d.parameters.length) = some 2 := by decide +kernel
set_option maxHeartbeats 4000000 in
theorem met_X1_ofClass (l : Launch) (htr : l.stackTraces = false) (G : GP) (d : Nat) {post : Int32 → HS → Prop} {y0 : HS} {a0 : Nat} {i1 : Int32} {i2 : Int32} (hw : wp_X1_ofClass G post y0 a0 i1 i2) : vx_Met l yX1_ofClass (ws_ yX1_ofClass cX1_ofClass 3 (some .int)) (rmB (d + 63) 0) (hPc G y0 [va_rf (some a0), .int (i1), .int (i2)]) (hQi G y0 post) (hX G y0 (fun _ _ _ => False)) 0 (20 * 0) (HA y0) := by
  unfold wp_X1_ofClass at hw
  refine hv_met (own := RX1) (by decide) rfl (Nat.le_of_ble_eq_true rfl) ?_
  intro p e s m args below meth c ls E hr hlocks hnm hE hK hI hl
  replace hl : lv_has ls 3 [(0, va_rf (some a0)), (1, .int (i1)), (2, .int (i2))] := hl
  refine lv_iload_n E.1 E.2.1 dX1_ofClass_0 rfl (lv_at hl 1 rfl) ?_
  refine lv_iconst (v := nI 0) E.1 E.2.1 dX1_ofClass_1 rfl ?_
  refine hv_aload_n (r := some a0) E.1 E.2.1 dX1_ofClass_2 rfl (lv_at hl 0 rfl) ?_
  obtain ⟨f1, ⟨fs, hfs, hfk⟩, hw⟩ := hw
  refine hv_get (v := va_rf f1) E hK hI ciX1 4 (Nat.le_of_ble_eq_true rfl) q1424 (fun _ h => h) (Or.inl hfs) hfk dX1_ofClass_3 ?_
  obtain ⟨a2, ea2, hw⟩ := hw
  revert hl hw; subst ea2; intro hl hw
  obtain ⟨f3, ⟨fs, hfs, hfk⟩, hw⟩ := hw
  refine hv_getN (v := .int f3) E hK hI ciX2 7 (Nat.le_of_ble_eq_true rfl) q254 (fun _ h => h) (Or.inl hfs) hfk dX1_ofClass_6 ?_
  refine lv_iconst (v := nI 1) E.1 E.2.1 dX1_ofClass_9 rfl ?_
  refine lv_isub E.1 E.2.1 dX1_ofClass_10 ?_
  have hq := hw
  clear hw
  refine hv_callz (u := 0) (B1 := 0) hI (vx_runS (As := [.int (i1), .int (nI 0), .int (f3 - (nI 1))]) (rest := []) E (met_X1_within l G (d + 62) hq) (va_cwS 3 E.2.2.2.2 (lw_S q180 q181 q121 q182) rfl rfl rfl hs_X1_within (rm_ok (by omega) (by decide))) (hv_preS hK hI) rfl rfl hl.1 rfl (lv_room (by first | rfl | decide | (simp [va_rf_cat, int_cat, long_cat]; done) | (simp [va_rf_cat, int_cat, long_cat]; decide))) dX1_ofClass_11 (hv_fit (by first | exact (Nat.le_refl 0) | omega))) (fun _ _ _ _ _ h => h.elim) (fun b5 y4 H locs hw hI => ?_)
  refine lv_if_ne (tgt := 19) E.1 E.2.1 dX1_ofClass_14 (by decide) (fun c6 => ?_) (fun c6 => ?_)
  · replace hw := hw.1 (bi_n c6)
    refine lv_iload_n E.1 E.2.1 dX1_ofClass_19 rfl (lv_at hl 2 rfl) ?_
    by_cases c7 : i2 = nI 0
    · replace hw := hw.1 c7
      have hti : i2.toInt = 0 := by rw [c7]; decide
      refine lv_tableIn (tgt := 48) (off := 28) E.1 E.2.1 dX1_ofClass_20 (by rw [hti]; decide) (by rw [hti]; decide) (by rw [hti]; rfl) (by decide) ?_
      refine hv_aload_n (r := some a0) E.1 E.2.1 dX1_ofClass_48 rfl (lv_at hl 0 rfl) ?_
      obtain ⟨f8, ⟨fs, hfs, hfk⟩, hw⟩ := hw
      refine hv_get (v := va_rf f8) E hK hI ciX1 4 (Nat.le_of_ble_eq_true rfl) q1424 (fun _ h => h) (Or.inl hfs) hfk dX1_ofClass_49 ?_
      obtain ⟨a9, ea9, hw⟩ := hw
      revert hl hw; subst ea9; intro hl hw
      obtain ⟨f10, ⟨fs, hfs, hfk⟩, hw⟩ := hw
      refine hv_getN (v := va_rf f10) E hK hI ciX2 6 (Nat.le_of_ble_eq_true rfl) q251 (fun _ h => h) (Or.inl hfs) hfk dX1_ofClass_52 ?_
      refine lv_iload_n E.1 E.2.1 dX1_ofClass_55 rfl (lv_at hl 1 rfl) ?_
      obtain ⟨a11, ea11, hw⟩ := hw
      revert hl hw; subst ea11; intro hl hw
      obtain ⟨n12, g13, hra, hin, hw⟩ := hw
      refine hv_sald E hK hI hra hin dX1_ofClass_56 ?_
      exact hv_ireti E hr hlocks hI (Nat.le_refl 0) hw dX1_ofClass_57
    replace hw := hw.2 c7
    by_cases c14 : i2 = nI 1
    · replace hw := hw.1 c14
      have hti : i2.toInt = 1 := by rw [c14]; decide
      refine lv_tableIn (tgt := 58) (off := 38) E.1 E.2.1 dX1_ofClass_20 (by rw [hti]; decide) (by rw [hti]; decide) (by rw [hti]; rfl) (by decide) ?_
      refine hv_aload_n (r := some a0) E.1 E.2.1 dX1_ofClass_58 rfl (lv_at hl 0 rfl) ?_
      refine lv_iload_n E.1 E.2.1 dX1_ofClass_59 rfl (lv_at hl 1 rfl) ?_
      obtain ⟨⟨fs17, hrv⟩, hw⟩ := hw
      have hq := hw
      clear hw
      refine hv_calli (u := 0) (B1 := 0) hI (vx_runV (As := [.int (i1)]) (rest := []) E (met_X1_leavesOf l htr G (d + 59) hq) (cwV 1 E.2.2.2.2 (lw_V q1704 q1706 qs52 q121 q1707) rfl rfl rfl hd_X1_leavesOf (rm_ok (by omega) (by decide))) (hv_preV hK hI hrv rfl) rfl rfl hl.1 rfl (lv_room (by first | rfl | decide | (simp [va_rf_cat, int_cat, long_cat]; done) | (simp [va_rf_cat, int_cat, long_cat]; decide))) dX1_ofClass_60 (hv_fit (by first | exact (Nat.le_refl 0) | omega))) (fun _ _ _ _ _ h => h.elim) (fun x16 y15 H locs hw hI => ?_)
      exact hv_ireti E hr hlocks hI (Nat.le_refl 0) hw dX1_ofClass_63
    replace hw := hw.2 c14
    by_cases c18 : i2 = nI 2
    · replace hw := hw.1 c18
      have hti : i2.toInt = 2 := by rw [c18]; decide
      refine lv_tableIn (tgt := 64) (off := 44) E.1 E.2.1 dX1_ofClass_20 (by rw [hti]; decide) (by rw [hti]; decide) (by rw [hti]; rfl) (by decide) ?_
      refine hv_aload_n (r := some a0) E.1 E.2.1 dX1_ofClass_64 rfl (lv_at hl 0 rfl) ?_
      refine lv_iload_n E.1 E.2.1 dX1_ofClass_65 rfl (lv_at hl 1 rfl) ?_
      obtain ⟨⟨fs21, hrv⟩, hw⟩ := hw
      have hq := hw
      clear hw
      refine hv_calli (u := 0) (B1 := 0) hI (vx_runV (As := [.int (i1)]) (rest := []) E (met_X1_staysOf l htr G (d) hq) (cwV 1 E.2.2.2.2 (lw_V q1709 q1711 qs53 q121 q1712) rfl rfl rfl hd_X1_staysOf (rm_ok (by omega) (by decide))) (hv_preV hK hI hrv rfl) rfl rfl hl.1 rfl (lv_room (by first | rfl | decide | (simp [va_rf_cat, int_cat, long_cat]; done) | (simp [va_rf_cat, int_cat, long_cat]; decide))) dX1_ofClass_66 (hv_fit (by first | exact (Nat.le_refl 0) | omega))) (fun _ _ _ _ _ h => h.elim) (fun x20 y19 H locs hw hI => ?_)
      exact hv_ireti E hr hlocks hI (Nat.le_refl 0) hw dX1_ofClass_69
    replace hw := hw.2 c18
    refine lv_tableOut (tgt := 70) E.1 E.2.1 dX1_ofClass_20 (tab_out (fun j h1 h2 h3 => ?_)) (by decide) ?_
    · have hj : j = 0 ∨ j = 1 ∨ j = 2 := by omega
      rcases hj with rfl | rfl | rfl
      · exact c7 (Int32.toInt_inj.mp (by rw [h3]; decide))
      · exact c14 (Int32.toInt_inj.mp (by rw [h3]; decide))
      · exact c18 (Int32.toInt_inj.mp (by rw [h3]; decide))
    · skip
      refine lv_iconst (v := (-1)) E.1 E.2.1 dX1_ofClass_70 rfl ?_
      exact hv_ireti E hr hlocks hI (Nat.le_refl 0) hw dX1_ofClass_71
  · replace hw := hw.2 (bi_z c6)
    refine lv_iconst (v := (-1)) E.1 E.2.1 dX1_ofClass_17 rfl ?_
    exact hv_ireti E hr hlocks hI (Nat.le_refl 0) hw dX1_ofClass_18
/-- CaseGrouper.name(II)I -/
def wp_X1_name (G : GP) (B : Nat) (post : Int32 → HS → Prop) (y0 : HS) (a0 : Nat) (i1 : Int32) (i2 : Int32) : Prop := ∃ f1, fR y0 a0 0 4 f1 ∧ ∃ a2, f1 = some a2 ∧ ∃ f3, fR y0 a2 1 5 f3 ∧ ∃ a4, f3 = some a4 ∧ ∃ (n5 : Nat) (g6 : Nat → Option Nat), rd G y0 a4 (ar 7 n5 g6) ∧ ((¬ vp_in i1 n5 ∧ n5 < 2 ^ 31 ∧ 0 + 60 ≤ B ∧ ∀ (q7 : Nat) (y8 : HS), y8.1 = y0.1 → y0.2 ≤ y8.2 → post ((-1)) y8) ∨ (vp_in i1 n5 ∧ ((g6 i1.toNatClampNeg = none ∧ 0 + 60 ≤ B ∧ ∀ (q10 : Nat) (y11 : HS), y11.1 = y0.1 → y0.2 ≤ y11.2 → post ((-1)) y11) ∨ (∃ a9, g6 i1.toNatClampNeg = some a9 ∧ ∃ (n12 : Nat) (g13 : Nat → Int32), rd G y0 a9 (ai 4 n12 g13) ∧ ∀ x14, x14 = nI n12 → (i2 < 0 → ∃ f16, fR y0 a0 0 4 f16 ∧ ∃ a17, f16 = some a17 ∧ ∃ f18, fR y0 a17 1 5 f18 ∧ ∃ a19, f18 = some a19 ∧ ∃ (n20 : Nat) (g21 : Nat → Option Nat), rd G y0 a19 (ar 7 n20 g21) ∧ vp_in i1 n20 ∧ ∃ a22, g21 i1.toNatClampNeg = some a22 ∧ ∃ (n23 : Nat) (g24 : Nat → Int32), rd G y0 a22 (ai 4 n23 g24) ∧ ((¬ vp_in i2 n23 ∧ n23 < 2 ^ 31 ∧ 0 + 60 ≤ B ∧ ∀ (q25 : Nat) (y26 : HS), y26.1 = y0.1 → y0.2 ≤ y26.2 → post ((-1)) y26) ∨ (vp_in i2 n23 ∧ post (((g24 i2.toNatClampNeg) - (nI 97)) + (nI 1)) y0))) ∧ (¬ i2 < 0 → (i2 < x14 → ∃ f28, fR y0 a0 0 4 f28 ∧ ∃ a29, f28 = some a29 ∧ ∃ f30, fR y0 a29 1 5 f30 ∧ ∃ a31, f30 = some a31 ∧ ∃ (n32 : Nat) (g33 : Nat → Option Nat), rd G y0 a31 (ar 7 n32 g33) ∧ vp_in i1 n32 ∧ ∃ a34, g33 i1.toNatClampNeg = some a34 ∧ ∃ (n35 : Nat) (g36 : Nat → Int32), rd G y0 a34 (ai 4 n35 g36) ∧ ((¬ vp_in i2 n35 ∧ n35 < 2 ^ 31 ∧ 0 + 60 ≤ B ∧ ∀ (q37 : Nat) (y38 : HS), y38.1 = y0.1 → y0.2 ≤ y38.2 → post ((-1)) y38) ∨ (vp_in i2 n35 ∧ post (((g36 i2.toNatClampNeg) - (nI 97)) + (nI 1)) y0))) ∧ (¬ i2 < x14 → post (nI 0) y0))))))
theorem hs_X1_name : yX1_name.cls ≠ "java/lang/invoke/MethodHandle" ∧ yX1_name.cls ≠ "java/lang/invoke/VarHandle" ∧ (parseMethodDescriptor yX1_name.desc).map (fun d => d.parameters.length) = some 2 := by decide +kernel
theorem hd_X1_name : yX1_name.cls = RX1 ∧ yX1_name.cls ≠ "java/lang/invoke/MethodHandle" ∧ yX1_name.cls ≠ "java/lang/invoke/VarHandle" ∧ (parseMethodDescriptor yX1_name.desc).map (fun d => d.parameters.length) = some 2 := by decide +kernel
set_option maxHeartbeats 4000000 in
theorem met_X1_name (l : Launch) (htr : l.stackTraces = false) (G : GP) (d : Nat) {B : Nat} {post : Int32 → HS → Prop} {y0 : HS} {a0 : Nat} {i1 : Int32} {i2 : Int32} (hw : wp_X1_name G B post y0 a0 i1 i2) : vx_Met l yX1_name (wsW_ yX1_name cX1_name 4 (some .int) [(0, 40, 41, 239), (0, 40, 41, 241)]) (rmB (d + 230) B) (hPc G y0 [va_rf (some a0), .int (i1), .int (i2)]) (hQi G y0 post) (hX G y0 (fun _ _ _ => False)) B (20 * B) (HA y0) := by
  unfold wp_X1_name at hw
  refine hv_metH (hh := [(0, 40, 41, 239), (0, 40, 41, 241)]) (own := RX1) (by decide) rfl (Nat.le_of_ble_eq_true rfl) ?_
  intro p e s m args below meth c ls E hr hlocks hnm hE hK hI hl
  replace hl : lv_has ls 4 [(0, va_rf (some a0)), (1, .int (i1)), (2, .int (i2))] := hl
  have hu : 0 ≤ B := Nat.zero_le _
  refine hv_aload_n (r := some a0) E.1 E.2.1 dX1_name_0 rfl (lv_at hl 0 rfl) ?_
  obtain ⟨f1, ⟨fs, hfs, hfk⟩, hw⟩ := hw
  refine hv_get (v := va_rf f1) E hK hI ciX1 4 (Nat.le_of_ble_eq_true rfl) q1424 (fun _ h => h) (Or.inl hfs) hfk dX1_name_1 ?_
  obtain ⟨a2, ea2, hw⟩ := hw
  revert hl hw; subst ea2; intro hl hw
  obtain ⟨f3, ⟨fs, hfs, hfk⟩, hw⟩ := hw
  refine hv_getN (v := va_rf f3) E hK hI ciX2 5 (Nat.le_of_ble_eq_true rfl) q247 (fun _ h => h) (Or.inl hfs) hfk dX1_name_4 ?_
  refine lv_iload_n E.1 E.2.1 dX1_name_7 rfl (lv_at hl 1 rfl) ?_
  obtain ⟨a4, ea4, hw⟩ := hw
  revert hl hw; subst ea4; intro hl hw
  obtain ⟨n5, g6, hra, hw⟩ := hw
  rcases hw with ⟨hin, hk31, hu, hw⟩ | ⟨hin, hw⟩
  · refine hv_aioA htr E hK hI hlocks hl.1 hra hk31 hin hu (by first | rfl | decide | (simp [va_rf_cat, int_cat, long_cat]; done) | (simp [va_rf_cat, int_cat, long_cat]; decide)) dX1_name_8 (fun q7 y8 H e1 e2 hI hc => ?_)
    replace hw := hw q7 y8 e1 e2
    refine hv_catch1 (ec := 26) (e0 := 25) E hK hE (by decide) q1717 (by decide) (by decide) (by decide) q1718 q1733 hc ?_
    refine hv_astore_n (r := some q7) (lv' := [(3, va_rf (some q7)), (0, va_rf (some a0)), (1, .int (i1)), (2, .int (i2))]) E.1 E.2.1 dX1_name_41 rfl hl (Nat.le_of_ble_eq_true rfl) (by first | rfl | decide | (simp [va_rf_cat, int_cat, long_cat]; done) | (simp [va_rf_cat, int_cat, long_cat]; decide)) (fun ls hl => ?_)
    refine lv_iconst (v := (-1)) E.1 E.2.1 dX1_name_42 rfl ?_
    exact hv_ireti E hr hlocks hI hu hw dX1_name_43
  · refine hv_aald E hK hI hra rfl rfl hin dX1_name_8 ?_
    rcases hw with ⟨hea, hu, hw⟩ | ⟨a9, hea, hw⟩
    · rw [hea]
      refine hv_npeL htr E hK hI hlocks hl.1 hu (by first | rfl | decide | (simp [va_rf_cat, int_cat, long_cat]; done) | (simp [va_rf_cat, int_cat, long_cat]; decide)) dX1_name_9 (fun q10 y11 H e1 e2 hI hc => ?_)
      replace hw := hw q10 y11 e1 e2
      refine hv_catch0 (ec := 25) E hK hE (by decide) (by decide) q1717 q889 hc ?_
      refine hv_astore_n (r := some q10) (lv' := [(3, va_rf (some q10)), (0, va_rf (some a0)), (1, .int (i1)), (2, .int (i2))]) E.1 E.2.1 dX1_name_41 rfl hl (Nat.le_of_ble_eq_true rfl) (by first | rfl | decide | (simp [va_rf_cat, int_cat, long_cat]; done) | (simp [va_rf_cat, int_cat, long_cat]; decide)) (fun ls hl => ?_)
      refine lv_iconst (v := (-1)) E.1 E.2.1 dX1_name_42 rfl ?_
      exact hv_ireti E hr hlocks hI hu hw dX1_name_43
    · rw [hea]
      obtain ⟨n12, g13, hra, hw⟩ := hw
      refine hv_alen (t := 4) E hK hI hra rfl dX1_name_9 ?_
      refine lv_topi (fun x14 ex14 => ?_)
      replace hw := hw x14 ex14
      refine lv_istore_n (lv' := [(3, .int (x14)), (0, va_rf (some a0)), (1, .int (i1)), (2, .int (i2))]) E.1 E.2.1 dX1_name_10 rfl hl (Nat.le_of_ble_eq_true rfl) (by first | rfl | decide | (simp [va_rf_cat, int_cat, long_cat]; done) | (simp [va_rf_cat, int_cat, long_cat]; decide)) (fun ls hl => ?_)
      refine lv_iload_n E.1 E.2.1 dX1_name_11 rfl (lv_at hl 3 rfl) ?_
      refine lv_if_lt (tgt := 24) E.1 E.2.1 dX1_name_12 (by decide) (fun c15 => ?_) (fun c15 => ?_)
      · replace hw := hw.1 (c15)
        refine hv_aload_n (r := some a0) E.1 E.2.1 dX1_name_24 rfl (lv_at hl 1 rfl) ?_
        obtain ⟨f16, ⟨fs, hfs, hfk⟩, hw⟩ := hw
        refine hv_get (v := va_rf f16) E hK hI ciX1 4 (Nat.le_of_ble_eq_true rfl) q1424 (fun _ h => h) (Or.inl hfs) hfk dX1_name_25 ?_
        obtain ⟨a17, ea17, hw⟩ := hw
        revert hl hw; subst ea17; intro hl hw
        obtain ⟨f18, ⟨fs, hfs, hfk⟩, hw⟩ := hw
        refine hv_getN (v := va_rf f18) E hK hI ciX2 5 (Nat.le_of_ble_eq_true rfl) q247 (fun _ h => h) (Or.inl hfs) hfk dX1_name_28 ?_
        refine lv_iload_n E.1 E.2.1 dX1_name_31 rfl (lv_at hl 2 rfl) ?_
        obtain ⟨a19, ea19, hw⟩ := hw
        revert hl hw; subst ea19; intro hl hw
        obtain ⟨n20, g21, hra, hin, hw⟩ := hw
        refine hv_aald E hK hI hra rfl rfl hin dX1_name_32 ?_
        refine lv_iload_n E.1 E.2.1 dX1_name_33 rfl (lv_at hl 3 rfl) ?_
        obtain ⟨a22, ea22, hw⟩ := hw
        rw [ea22]
        obtain ⟨n23, g24, hra, hw⟩ := hw
        rcases hw with ⟨hin, hk31, hu, hw⟩ | ⟨hin, hw⟩
        · refine hv_aioC htr E hK hI hlocks hl.1 hra hk31 hin hu (by first | rfl | decide | (simp [va_rf_cat, int_cat, long_cat]; done) | (simp [va_rf_cat, int_cat, long_cat]; decide)) dX1_name_34 (fun q25 y26 H e1 e2 hI hc => ?_)
          replace hw := hw q25 y26 e1 e2
          refine hv_catch1 (ec := 26) (e0 := 25) E hK hE (by decide) q1717 (by decide) (by decide) (by decide) q1718 q1733 hc ?_
          refine hv_astore_n (r := some q25) (lv' := [(3, va_rf (some q25)), (0, va_rf (some a0)), (1, .int (i1)), (2, .int (i2))]) E.1 E.2.1 dX1_name_41 rfl hl (Nat.le_of_ble_eq_true rfl) (by first | rfl | decide | (simp [va_rf_cat, int_cat, long_cat]; done) | (simp [va_rf_cat, int_cat, long_cat]; decide)) (fun ls hl => ?_)
          refine lv_iconst (v := (-1)) E.1 E.2.1 dX1_name_42 rfl ?_
          exact hv_ireti E hr hlocks hI hu hw dX1_name_43
        · refine hv_cald E hK hI hra hin dX1_name_34 ?_
          refine lv_bipush (v := nI 97) E.1 E.2.1 dX1_name_35 rfl ?_
          refine lv_isub E.1 E.2.1 dX1_name_37 ?_
          refine lv_iconst (v := nI 1) E.1 E.2.1 dX1_name_38 rfl ?_
          refine lv_iadd E.1 E.2.1 dX1_name_39 ?_
          exact hv_ireti E hr hlocks hI hu hw dX1_name_40
      · replace hw := hw.2 (c15)
        refine lv_iload_n E.1 E.2.1 dX1_name_15 rfl (lv_at hl 3 rfl) ?_
        refine lv_iload_n E.1 E.2.1 dX1_name_16 rfl (lv_at hl 0 rfl) ?_
        refine lv_icmp_lt (tgt := 24) E.1 E.2.1 dX1_name_17 (by decide) (fun c27 => ?_) (fun c27 => ?_)
        · replace hw := hw.1 (c27)
          refine hv_aload_n (r := some a0) E.1 E.2.1 dX1_name_24 rfl (lv_at hl 1 rfl) ?_
          obtain ⟨f28, ⟨fs, hfs, hfk⟩, hw⟩ := hw
          refine hv_get (v := va_rf f28) E hK hI ciX1 4 (Nat.le_of_ble_eq_true rfl) q1424 (fun _ h => h) (Or.inl hfs) hfk dX1_name_25 ?_
          obtain ⟨a29, ea29, hw⟩ := hw
          revert hl hw; subst ea29; intro hl hw
          obtain ⟨f30, ⟨fs, hfs, hfk⟩, hw⟩ := hw
          refine hv_getN (v := va_rf f30) E hK hI ciX2 5 (Nat.le_of_ble_eq_true rfl) q247 (fun _ h => h) (Or.inl hfs) hfk dX1_name_28 ?_
          refine lv_iload_n E.1 E.2.1 dX1_name_31 rfl (lv_at hl 2 rfl) ?_
          obtain ⟨a31, ea31, hw⟩ := hw
          revert hl hw; subst ea31; intro hl hw
          obtain ⟨n32, g33, hra, hin, hw⟩ := hw
          refine hv_aald E hK hI hra rfl rfl hin dX1_name_32 ?_
          refine lv_iload_n E.1 E.2.1 dX1_name_33 rfl (lv_at hl 3 rfl) ?_
          obtain ⟨a34, ea34, hw⟩ := hw
          rw [ea34]
          obtain ⟨n35, g36, hra, hw⟩ := hw
          rcases hw with ⟨hin, hk31, hu, hw⟩ | ⟨hin, hw⟩
          · refine hv_aioC htr E hK hI hlocks hl.1 hra hk31 hin hu (by first | rfl | decide | (simp [va_rf_cat, int_cat, long_cat]; done) | (simp [va_rf_cat, int_cat, long_cat]; decide)) dX1_name_34 (fun q37 y38 H e1 e2 hI hc => ?_)
            replace hw := hw q37 y38 e1 e2
            refine hv_catch1 (ec := 26) (e0 := 25) E hK hE (by decide) q1717 (by decide) (by decide) (by decide) q1718 q1733 hc ?_
            refine hv_astore_n (r := some q37) (lv' := [(3, va_rf (some q37)), (0, va_rf (some a0)), (1, .int (i1)), (2, .int (i2))]) E.1 E.2.1 dX1_name_41 rfl hl (Nat.le_of_ble_eq_true rfl) (by first | rfl | decide | (simp [va_rf_cat, int_cat, long_cat]; done) | (simp [va_rf_cat, int_cat, long_cat]; decide)) (fun ls hl => ?_)
            refine lv_iconst (v := (-1)) E.1 E.2.1 dX1_name_42 rfl ?_
            exact hv_ireti E hr hlocks hI hu hw dX1_name_43
          · refine hv_cald E hK hI hra hin dX1_name_34 ?_
            refine lv_bipush (v := nI 97) E.1 E.2.1 dX1_name_35 rfl ?_
            refine lv_isub E.1 E.2.1 dX1_name_37 ?_
            refine lv_iconst (v := nI 1) E.1 E.2.1 dX1_name_38 rfl ?_
            refine lv_iadd E.1 E.2.1 dX1_name_39 ?_
            exact hv_ireti E hr hlocks hI hu hw dX1_name_40
        · replace hw := hw.2 (c27)
          refine lv_iconst (v := nI 0) E.1 E.2.1 dX1_name_20 rfl ?_
          refine lv_goto (tgt := 40) E.1 E.2.1 dX1_name_21 (by decide) ?_
          exact hv_ireti E hr hlocks hI hu hw dX1_name_40
/-- CaseGrouper.staysAt(LCaseGrouper$Leaf;)I -/
def wp_X1_staysAt (G : GP) (post : Int32 → HS → Prop) (y0 : HS) (a0 : Nat) (p1 : Option Nat) : Prop := ∃ I1 : Nat → HS → Int32 → Int32 → Prop, (∃ n8, I1 n8 y0 (nI 0) (nI 0)) ∧ ∀ (n2 : Nat) (y3 : HS) (x6 : Int32) (x7 : Int32), I1 n2 y3 x6 x7 → ∃ f9, fR y3 a0 0 3 f9 ∧ ∃ a10, f9 = some a10 ∧ (∃ fs13, rd G y3 a10 (ob 18 fs13)) ∧ wp_J2_size G (fun x12 y11 => (x12 ≤ x7 → post x6 y11) ∧ (¬ x12 ≤ x7 → (∃ fs16, rd G y11 a0 (ob 0 fs16)) ∧ wp_X1_looks G (fun y15 => ∃ f17, fR y15 a0 0 6 f17 ∧ ∃ a18, f17 = some a18 ∧ ∃ f19, fR y15 a18 2 5 f19 ∧ (¬ f19 = p1 → ∀ x21, x21 = x6 + (nI 0) → ∃ n22, n22 < n2 ∧ I1 n22 y15 x21 (x7 + nI 1)) ∧ (f19 = p1 → ∀ x23, x23 = x6 + (nI 1) → ∃ n24, n24 < n2 ∧ I1 n24 y15 x23 (x7 + nI 1))) y11 a0 x7)) y3 a10
theorem hs_X1_staysAt : yX1_staysAt.cls ≠ "java/lang/invoke/MethodHandle" ∧ yX1_staysAt.cls ≠ "java/lang/invoke/VarHandle" ∧ (parseMethodDescriptor yX1_staysAt.desc).map (fun d => d.parameters.length) = some 1 := by decide +kernel
theorem hd_X1_staysAt : yX1_staysAt.cls = RX1 ∧ yX1_staysAt.cls ≠ "java/lang/invoke/MethodHandle" ∧ yX1_staysAt.cls ≠ "java/lang/invoke/VarHandle" ∧ (parseMethodDescriptor yX1_staysAt.desc).map (fun d => d.parameters.length) = some 1 := by decide +kernel
set_option maxHeartbeats 4000000 in
theorem met_X1_staysAt (l : Launch) (htr : l.stackTraces = false) (G : GP) (d : Nat) {post : Int32 → HS → Prop} {y0 : HS} {a0 : Nat} {p1 : Option Nat} (hw : wp_X1_staysAt G post y0 a0 p1) : vx_Met l yX1_staysAt (ws_ yX1_staysAt cX1_staysAt 4 (some .int)) (rmB (d + 62) 0) (hPc G y0 [va_rf (some a0), va_rf p1]) (hQi G y0 post) (hX G y0 (fun _ _ _ => False)) 0 (20 * 0) (HA y0) := by
  unfold wp_X1_staysAt at hw
  refine hv_met (own := RX1) (by decide) rfl (by simp [lg_sl, va_rf_cat, int_cat, long_cat]) ?_
  intro p e s m args below meth c ls E hr hlocks hnm hE hK hI hl
  replace hl : lv_has ls 4 [(0, va_rf (some a0)), (1, va_rf p1)] := by simpa [lv_args, va_rf_cat, int_cat, long_cat] using hl
  refine lv_iconst (v := nI 0) E.1 E.2.1 dX1_staysAt_0 rfl ?_
  refine lv_istore_n (lv' := [(2, .int (nI 0)), (0, va_rf (some a0)), (1, va_rf p1)]) E.1 E.2.1 dX1_staysAt_1 rfl hl (Nat.le_of_ble_eq_true rfl) (by first | rfl | decide | (simp [va_rf_cat, int_cat, long_cat]; done) | (simp [va_rf_cat, int_cat, long_cat]; decide)) (fun ls hl => ?_)
  refine lv_iconst (v := nI 0) E.1 E.2.1 dX1_staysAt_2 rfl ?_
  refine lv_istore_n (lv' := [(3, .int (nI 0)), (2, .int (nI 0)), (0, va_rf (some a0)), (1, va_rf p1)]) E.1 E.2.1 dX1_staysAt_3 rfl hl (Nat.le_of_ble_eq_true rfl) (by first | rfl | decide | (simp [va_rf_cat, int_cat, long_cat]; done) | (simp [va_rf_cat, int_cat, long_cat]; decide)) (fun ls hl => ?_)
  obtain ⟨I1, ⟨n8, hi26⟩, hb25⟩ := hw
  have L5 : ∀ (n2 : Nat) (y3 : HS) (x6 : Int32) (x7 : Int32), I1 n2 y3 x6 x7 → ∀ (H : Heap) (locs : List Loc) (ls : Array Slot), HI G y0 y3 s H locs → lv_has ls 4 [(0, va_rf (some a0)), (1, va_rf p1), (2, .int (x6)), (3, .int (x7))] → W p l e (rmB (d + 62) 0) s m args below meth c H locs 0 (20 * 0) (vx_MQ below (hQi G y0 post) (hX G y0 (fun _ _ _ => False)) args s 0 (20 * 0) (HA y0)) (F0 m 4 ls []) := by
    intro n2
    induction n2 using Nat.strongRecOn with
    | _ n2 ih4 =>
      intro y3 x6 x7 hw H locs ls hI hl
      replace hw := hb25 n2 y3 x6 x7 hw
      refine lv_iload_n E.1 E.2.1 dX1_staysAt_4 rfl (lv_at hl 3 rfl) ?_
      refine hv_aload_n (r := some a0) E.1 E.2.1 dX1_staysAt_5 rfl (lv_at hl 0 rfl) ?_
      obtain ⟨f9, ⟨fs, hfs, hfk⟩, hw⟩ := hw
      refine hv_get (v := va_rf f9) E hK hI ciX1 3 (Nat.le_of_ble_eq_true rfl) q1423 (fun _ h => h) (Or.inl hfs) hfk dX1_staysAt_6 ?_
      obtain ⟨a10, ea10, hw⟩ := hw
      revert hl hw; subst ea10; intro hl hw
      obtain ⟨⟨fs13, hrv⟩, hw⟩ := hw
      have hq := hw
      clear hw
      refine hv_calli (u := 0) (B1 := 0) hI (vx_runV (As := []) (rest := [.int (x7)]) E (met_J2_size l G (d + 61) hq) (cwV 0 E.2.2.2.2 (lw_V q1453 q752 q753 q124 q754) rfl rfl rfl hd_J2_size (rm_ok (by omega) (by decide))) (hv_preV hK hI hrv rfl) rfl rfl hl.1 rfl (lv_room (by first | rfl | decide | (simp [va_rf_cat, int_cat, long_cat]; done) | (simp [va_rf_cat, int_cat, long_cat]; decide))) dX1_staysAt_9 (hv_fit (by first | exact (Nat.le_refl 0) | omega))) (fun _ _ _ _ _ h => h.elim) (fun x12 y11 H locs hw hI => ?_)
      refine lv_icmp_ge (tgt := 45) E.1 E.2.1 dX1_staysAt_12 (by decide) (fun c14 => ?_) (fun c14 => ?_)
      · replace hw := hw.1 (c14)
        refine lv_iload_n E.1 E.2.1 dX1_staysAt_45 rfl (lv_at hl 2 rfl) ?_
        exact hv_ireti E hr hlocks hI (Nat.le_refl 0) hw dX1_staysAt_46
      · replace hw := hw.2 (c14)
        refine hv_aload_n (r := some a0) E.1 E.2.1 dX1_staysAt_15 rfl (lv_at hl 0 rfl) ?_
        refine lv_iload_n E.1 E.2.1 dX1_staysAt_16 rfl (lv_at hl 3 rfl) ?_
        obtain ⟨⟨fs16, hrv⟩, hw⟩ := hw
        have hq := hw
        clear hw
        refine hv_callv (u := 0) (B1 := 0) hI (vx_runV (As := [.int (x7)]) (rest := []) E (met_X1_looks l htr G (d) hq) (cwV 1 E.2.2.2.2 (lw_V q1611 q1613 qs47 q121 q1614) rfl rfl rfl hd_X1_looks (rm_ok (by omega) (by decide))) (hv_preV hK hI hrv rfl) rfl rfl hl.1 rfl (lv_room (by first | rfl | decide | (simp [va_rf_cat, int_cat, long_cat]; done) | (simp [va_rf_cat, int_cat, long_cat]; decide))) dX1_staysAt_17 (hv_fit (by first | exact (Nat.le_refl 0) | omega))) (fun _ _ _ _ _ h => h.elim) (fun y15 H locs hw hI => ?_)
        refine lv_iload_n E.1 E.2.1 dX1_staysAt_20 rfl (lv_at hl 2 rfl) ?_
        refine hv_aload_n (r := some a0) E.1 E.2.1 dX1_staysAt_21 rfl (lv_at hl 0 rfl) ?_
        obtain ⟨f17, ⟨fs, hfs, hfk⟩, hw⟩ := hw
        refine hv_get (v := va_rf f17) E hK hI ciX1 6 (Nat.le_of_ble_eq_true rfl) q1426 (fun _ h => h) (Or.inl hfs) hfk dX1_staysAt_22 ?_
        obtain ⟨a18, ea18, hw⟩ := hw
        revert hl hw; subst ea18; intro hl hw
        obtain ⟨f19, ⟨fs, hfs, hfk⟩, hw⟩ := hw
        refine hv_getN (v := va_rf f19) E hK hI ciX4 5 (Nat.le_of_ble_eq_true rfl) q1397 (fun _ h => h) (Or.inl hfs) hfk dX1_staysAt_25 ?_
        refine hv_aload_n (r := p1) E.1 E.2.1 dX1_staysAt_28 rfl (lv_at hl 1 rfl) ?_
        refine lv_acmp_ne (rx := f19) (ry := p1) (tgt := 36) E.1 E.2.1 dX1_staysAt_29 (by decide) (fun c20 => ?_) (fun c20 => ?_)
        · replace hw := hw.1 (c20)
          refine lv_iconst (v := nI 0) E.1 E.2.1 dX1_staysAt_36 rfl ?_
          refine lv_iadd E.1 E.2.1 dX1_staysAt_37 ?_
          refine lv_topi (fun x21 ex21 => ?_)
          replace hw := hw x21 ex21
          refine lv_istore_n (lv' := [(2, .int (x21)), (0, va_rf (some a0)), (1, va_rf p1), (3, .int (x7))]) E.1 E.2.1 dX1_staysAt_38 rfl hl (Nat.le_of_ble_eq_true rfl) (by first | rfl | decide | (simp [va_rf_cat, int_cat, long_cat]; done) | (simp [va_rf_cat, int_cat, long_cat]; decide)) (fun ls hl => ?_)
          refine lv_iinc (k := 3) (v := x7 + nI 1) (lv' := [(3, .int (x7 + nI 1)), (2, .int (x21)), (0, va_rf (some a0)), (1, va_rf p1)]) E.1 E.2.1 dX1_staysAt_39 hl rfl rfl (Nat.le_of_ble_eq_true rfl) (by first | rfl | decide | (simp [va_rf_cat, int_cat, long_cat]; done) | (simp [va_rf_cat, int_cat, long_cat]; decide)) (fun ls hl => ?_)
          refine lv_goto (tgt := 4) E.1 E.2.1 dX1_staysAt_42 (by decide) ?_
          obtain ⟨n22, hnn22, hin22⟩ := hw
          exact ih4 n22 hnn22 _ _ _ hin22 _ _ _ hI (lv_sub hl [2, 3, 1, 0] rfl)
        · replace hw := hw.2 (c20)
          refine lv_iconst (v := nI 1) E.1 E.2.1 dX1_staysAt_32 rfl ?_
          refine lv_goto (tgt := 37) E.1 E.2.1 dX1_staysAt_33 (by decide) ?_
          refine lv_iadd E.1 E.2.1 dX1_staysAt_37 ?_
          refine lv_topi (fun x23 ex23 => ?_)
          replace hw := hw x23 ex23
          refine lv_istore_n (lv' := [(2, .int (x23)), (0, va_rf (some a0)), (1, va_rf p1), (3, .int (x7))]) E.1 E.2.1 dX1_staysAt_38 rfl hl (Nat.le_of_ble_eq_true rfl) (by first | rfl | decide | (simp [va_rf_cat, int_cat, long_cat]; done) | (simp [va_rf_cat, int_cat, long_cat]; decide)) (fun ls hl => ?_)
          refine lv_iinc (k := 3) (v := x7 + nI 1) (lv' := [(3, .int (x7 + nI 1)), (2, .int (x23)), (0, va_rf (some a0)), (1, va_rf p1)]) E.1 E.2.1 dX1_staysAt_39 hl rfl rfl (Nat.le_of_ble_eq_true rfl) (by first | rfl | decide | (simp [va_rf_cat, int_cat, long_cat]; done) | (simp [va_rf_cat, int_cat, long_cat]; decide)) (fun ls hl => ?_)
          refine lv_goto (tgt := 4) E.1 E.2.1 dX1_staysAt_42 (by decide) ?_
          obtain ⟨n24, hnn24, hin24⟩ := hw
          exact ih4 n24 hnn24 _ _ _ hin24 _ _ _ hI (lv_sub hl [2, 3, 1, 0] rfl)
  exact L5 n8 _ _ _ hi26 _ _ _ hI (lv_sub hl [2, 3, 1, 0] rfl)
/-- CaseGrouper.leaf(II)I -/
def wp_X1_leaf (G : GP) (post : Int32 → HS → Prop) (y0 : HS) (a0 : Nat) (i1 : Int32) (i2 : Int32) : Prop := ∃ f1, fR y0 a0 0 4 f1 ∧ ∃ a2, f1 = some a2 ∧ ∃ f3, fR y0 a2 1 3 f3 ∧ ∃ a4, f3 = some a4 ∧ (∃ fs7, rd G y0 a4 (ob 18 fs7)) ∧ wp_J2_size G (fun x6 y5 => wp_X1_within G (fun b9 y8 => (b9 = true → ∃ f11, fR y8 a0 0 4 f11 ∧ ∃ a12, f11 = some a12 ∧ ∃ f13, fR y8 a12 1 3 f13 ∧ ∃ a14, f13 = some a14 ∧ (∃ fs17, rd G y8 a14 (ob 18 fs17)) ∧ wp_J2_get G (fun r16 y15 => isOf G y15 r16 11 ∧ (i2 = nI 0 → ∃ a19, r16 = some a19 ∧ ∃ f20, fI y15 a19 11 0 f20 ∧ post f20 y15) ∧ (¬ i2 = nI 0 → (i2 = nI 1 → ∃ f22, fR y15 a0 0 4 f22 ∧ ∃ a23, f22 = some a23 ∧ ∃ f24, fR y15 a23 1 0 f24 ∧ ∃ f25, fR y15 a0 0 4 f25 ∧ ∃ a26, f25 = some a26 ∧ ∃ f27, fR y15 a26 1 4 f27 ∧ ∃ a28, f27 = some a28 ∧ (∃ fs31, rd G y15 a28 (ob 18 fs31)) ∧ wp_J2_get G (fun r30 y29 => ∃ a32, f24 = some a32 ∧ (∃ fs35, rd G y29 a32 (ob 18 fs35)) ∧ wp_J2_indexOf G (fun x34 y33 => post x34 y33) y29 a32 r30) y15 a28 i1) ∧ (¬ i2 = nI 1 → (i2 = nI 2 → ∃ a37, r16 = some a37 ∧ ∃ f38, fI y15 a37 11 1 f38 ∧ (f38 = 0 → post (nI 1) y15) ∧ (¬ f38 = 0 → post (nI 0) y15)) ∧ (¬ i2 = nI 2 → (i2 = nI 3 → (∃ fs43, rd G y15 a0 (ob 0 fs43)) ∧ wp_X1_staysAt G (fun x42 y41 => post x42 y41) y15 a0 r16) ∧ (¬ i2 = nI 3 → post ((-1)) y15))))) y8 a14 i1) ∧ (b9 = false → post ((-1)) y8)) y5 i1 (nI 0) (x6 - (nI 1))) y0 a4
theorem hs_X1_leaf : yX1_leaf.cls ≠ "java/lang/invoke/MethodHandle" ∧ yX1_leaf.cls ≠ "java/lang/invoke/VarHandle" ∧ (parseMethodDescriptor yX1_leaf.desc).map (fun d => d.parameters.length) = some 2 := by decide +kernel
theorem hd_X1_leaf : yX1_leaf.cls = RX1 ∧ yX1_leaf.cls ≠ "java/lang/invoke/MethodHandle" ∧ yX1_leaf.cls ≠ "java/lang/invoke/VarHandle" ∧ (parseMethodDescriptor yX1_leaf.desc).map (fun d => d.parameters.length) = some 2 := by decide +kernel
set_option maxHeartbeats 4000000 in
theorem met_X1_leaf (l : Launch) (htr : l.stackTraces = false) (G : GP) (d : Nat) {post : Int32 → HS → Prop} {y0 : HS} {a0 : Nat} {i1 : Int32} {i2 : Int32} (hw : wp_X1_leaf G post y0 a0 i1 i2) : vx_Met l yX1_leaf (ws_ yX1_leaf cX1_leaf 4 (some .int)) (rmB (d + 63) 0) (hPc G y0 [va_rf (some a0), .int (i1), .int (i2)]) (hQi G y0 post) (hX G y0 (fun _ _ _ => False)) 0 (20 * 0) (HA y0) := by
  unfold wp_X1_leaf at hw
  refine hv_met (own := RX1) (by decide) rfl (Nat.le_of_ble_eq_true rfl) ?_
  intro p e s m args below meth c ls E hr hlocks hnm hE hK hI hl
  replace hl : lv_has ls 4 [(0, va_rf (some a0)), (1, .int (i1)), (2, .int (i2))] := hl
  refine lv_iload_n E.1 E.2.1 dX1_leaf_0 rfl (lv_at hl 1 rfl) ?_
  refine lv_iconst (v := nI 0) E.1 E.2.1 dX1_leaf_1 rfl ?_
  refine hv_aload_n (r := some a0) E.1 E.2.1 dX1_leaf_2 rfl (lv_at hl 0 rfl) ?_
  obtain ⟨f1, ⟨fs, hfs, hfk⟩, hw⟩ := hw
  refine hv_get (v := va_rf f1) E hK hI ciX1 4 (Nat.le_of_ble_eq_true rfl) q1424 (fun _ h => h) (Or.inl hfs) hfk dX1_leaf_3 ?_
  obtain ⟨a2, ea2, hw⟩ := hw
  revert hl hw; subst ea2; intro hl hw
  obtain ⟨f3, ⟨fs, hfs, hfk⟩, hw⟩ := hw
  refine hv_getN (v := va_rf f3) E hK hI ciX2 3 (Nat.le_of_ble_eq_true rfl) q243 (fun _ h => h) (Or.inl hfs) hfk dX1_leaf_6 ?_
  obtain ⟨a4, ea4, hw⟩ := hw
  revert hl hw; subst ea4; intro hl hw
  obtain ⟨⟨fs7, hrv⟩, hw⟩ := hw
  have hq := hw
  clear hw
  refine hv_calli (u := 0) (B1 := 0) hI (vx_runV (As := []) (rest := [.int (nI 0), .int (i1)]) E (met_J2_size l G (d + 62) hq) (cwV 0 E.2.2.2.2 (lw_V q1453 q752 q753 q124 q754) rfl rfl rfl hd_J2_size (rm_ok (by omega) (by decide))) (hv_preV hK hI hrv rfl) rfl rfl hl.1 rfl (lv_room (by first | rfl | decide | (simp [va_rf_cat, int_cat, long_cat]; done) | (simp [va_rf_cat, int_cat, long_cat]; decide))) dX1_leaf_9 (hv_fit (by first | exact (Nat.le_refl 0) | omega))) (fun _ _ _ _ _ h => h.elim) (fun x6 y5 H locs hw hI => ?_)
  refine lv_iconst (v := nI 1) E.1 E.2.1 dX1_leaf_12 rfl ?_
  refine lv_isub E.1 E.2.1 dX1_leaf_13 ?_
  have hq := hw
  clear hw
  refine hv_callz (u := 0) (B1 := 0) hI (vx_runS (As := [.int (i1), .int (nI 0), .int (x6 - (nI 1))]) (rest := []) E (met_X1_within l G (d + 62) hq) (va_cwS 3 E.2.2.2.2 (lw_S q180 q181 q121 q182) rfl rfl rfl hs_X1_within (rm_ok (by omega) (by decide))) (hv_preS hK hI) rfl rfl hl.1 rfl (lv_room (by first | rfl | decide | (simp [va_rf_cat, int_cat, long_cat]; done) | (simp [va_rf_cat, int_cat, long_cat]; decide))) dX1_leaf_14 (hv_fit (by first | exact (Nat.le_refl 0) | omega))) (fun _ _ _ _ _ h => h.elim) (fun b9 y8 H locs hw hI => ?_)
  refine lv_if_ne (tgt := 22) E.1 E.2.1 dX1_leaf_17 (by decide) (fun c10 => ?_) (fun c10 => ?_)
  · replace hw := hw.1 (bi_n c10)
    refine hv_aload_n (r := some a0) E.1 E.2.1 dX1_leaf_22 rfl (lv_at hl 0 rfl) ?_
    obtain ⟨f11, ⟨fs, hfs, hfk⟩, hw⟩ := hw
    refine hv_get (v := va_rf f11) E hK hI ciX1 4 (Nat.le_of_ble_eq_true rfl) q1424 (fun _ h => h) (Or.inl hfs) hfk dX1_leaf_23 ?_
    obtain ⟨a12, ea12, hw⟩ := hw
    revert hl hw; subst ea12; intro hl hw
    obtain ⟨f13, ⟨fs, hfs, hfk⟩, hw⟩ := hw
    refine hv_getN (v := va_rf f13) E hK hI ciX2 3 (Nat.le_of_ble_eq_true rfl) q243 (fun _ h => h) (Or.inl hfs) hfk dX1_leaf_26 ?_
    refine lv_iload_n E.1 E.2.1 dX1_leaf_29 rfl (lv_at hl 1 rfl) ?_
    obtain ⟨a14, ea14, hw⟩ := hw
    revert hl hw; subst ea14; intro hl hw
    obtain ⟨⟨fs17, hrv⟩, hw⟩ := hw
    have hq := hw
    clear hw
    refine hv_callq (u := 0) (B1 := 0) hI (vx_runV (As := [.int (i1)]) (rest := []) E (met_J2_get l G (d + 60) hq) (cwV 1 E.2.2.2.2 (lw_V q1495 q785 q786 q124 q787) rfl rfl rfl hd_J2_get (rm_ok (by omega) (by decide))) (hv_preV hK hI hrv rfl) rfl rfl hl.1 rfl (lv_room (by first | rfl | decide | (simp [va_rf_cat, int_cat, long_cat]; done) | (simp [va_rf_cat, int_cat, long_cat]; decide))) dX1_leaf_30 (hv_fit (by first | exact (Nat.le_refl 0) | omega))) (fun _ _ _ _ _ h => h.elim) (fun r16 y15 H locs hw hI => ?_)
    obtain ⟨hof, hw⟩ := hw
    refine hv_castC (cn := 11) E hK hI (by decide) q1708 hof dX1_leaf_33 ?_
    refine hv_astore_n (r := r16) (lv' := [(3, va_rf r16), (0, va_rf (some a0)), (1, .int (i1)), (2, .int (i2))]) E.1 E.2.1 dX1_leaf_36 rfl hl (Nat.le_of_ble_eq_true rfl) (by first | rfl | decide | (simp [va_rf_cat, int_cat, long_cat]; done) | (simp [va_rf_cat, int_cat, long_cat]; decide)) (fun ls hl => ?_)
    refine lv_iload_n E.1 E.2.1 dX1_leaf_37 rfl (lv_at hl 3 rfl) ?_
    by_cases c18 : i2 = nI 0
    · replace hw := hw.1 c18
      have hti : i2.toInt = 0 := by rw [c18]; decide
      refine lv_tableIn (tgt := 68) (off := 30) E.1 E.2.1 dX1_leaf_38 (by rw [hti]; decide) (by rw [hti]; decide) (by rw [hti]; rfl) (by decide) ?_
      refine hv_aload_n (r := r16) E.1 E.2.1 dX1_leaf_68 rfl (lv_at hl 0 rfl) ?_
      obtain ⟨a19, ea19, hw⟩ := hw
      revert hl hw; subst ea19; intro hl hw
      obtain ⟨f20, ⟨fs, hfs, hfk⟩, hw⟩ := hw
      refine hv_getN (v := .int f20) E hK hI ciX13 0 (Nat.le_of_ble_eq_true rfl) q1091 (fun _ h => h) (Or.inl hfs) hfk dX1_leaf_69 ?_
      exact hv_ireti E hr hlocks hI (Nat.le_refl 0) hw dX1_leaf_72
    replace hw := hw.2 c18
    by_cases c21 : i2 = nI 1
    · replace hw := hw.1 c21
      have hti : i2.toInt = 1 := by rw [c21]; decide
      refine lv_tableIn (tgt := 73) (off := 35) E.1 E.2.1 dX1_leaf_38 (by rw [hti]; decide) (by rw [hti]; decide) (by rw [hti]; rfl) (by decide) ?_
      refine hv_aload_n (r := some a0) E.1 E.2.1 dX1_leaf_73 rfl (lv_at hl 1 rfl) ?_
      obtain ⟨f22, ⟨fs, hfs, hfk⟩, hw⟩ := hw
      refine hv_get (v := va_rf f22) E hK hI ciX1 4 (Nat.le_of_ble_eq_true rfl) q1424 (fun _ h => h) (Or.inl hfs) hfk dX1_leaf_74 ?_
      obtain ⟨a23, ea23, hw⟩ := hw
      revert hl hw; subst ea23; intro hl hw
      obtain ⟨f24, ⟨fs, hfs, hfk⟩, hw⟩ := hw
      refine hv_getN (v := va_rf f24) E hK hI ciX2 0 (Nat.le_of_ble_eq_true rfl) q233 (fun _ h => h) (Or.inl hfs) hfk dX1_leaf_77 ?_
      refine hv_aload_n (r := some a0) E.1 E.2.1 dX1_leaf_80 rfl (lv_at hl 1 rfl) ?_
      obtain ⟨f25, ⟨fs, hfs, hfk⟩, hw⟩ := hw
      refine hv_get (v := va_rf f25) E hK hI ciX1 4 (Nat.le_of_ble_eq_true rfl) q1424 (fun _ h => h) (Or.inl hfs) hfk dX1_leaf_81 ?_
      obtain ⟨a26, ea26, hw⟩ := hw
      revert hl hw; subst ea26; intro hl hw
      obtain ⟨f27, ⟨fs, hfs, hfk⟩, hw⟩ := hw
      refine hv_getN (v := va_rf f27) E hK hI ciX2 4 (Nat.le_of_ble_eq_true rfl) q245 (fun _ h => h) (Or.inl hfs) hfk dX1_leaf_84 ?_
      refine lv_iload_n E.1 E.2.1 dX1_leaf_87 rfl (lv_at hl 2 rfl) ?_
      obtain ⟨a28, ea28, hw⟩ := hw
      revert hl hw; subst ea28; intro hl hw
      obtain ⟨⟨fs31, hrv⟩, hw⟩ := hw
      have hq := hw
      clear hw
      refine hv_callq (u := 0) (B1 := 0) hI (vx_runV (As := [.int (i1)]) (rest := [va_rf f24]) E (met_J2_get l G (d + 60) hq) (cwV 1 E.2.2.2.2 (lw_V q1495 q785 q786 q124 q787) rfl rfl rfl hd_J2_get (rm_ok (by omega) (by decide))) (hv_preV hK hI hrv rfl) rfl rfl hl.1 rfl (lv_room (by first | rfl | decide | (simp [va_rf_cat, int_cat, long_cat]; done) | (simp [va_rf_cat, int_cat, long_cat]; decide))) dX1_leaf_88 (hv_fit (by first | exact (Nat.le_refl 0) | omega))) (fun _ _ _ _ _ h => h.elim) (fun r30 y29 H locs hw hI => ?_)
      obtain ⟨a32, ea32, hw⟩ := hw
      revert hl hw; subst ea32; intro hl hw
      obtain ⟨⟨fs35, hrv⟩, hw⟩ := hw
      have hq := hw
      clear hw
      refine hv_calli (u := 0) (B1 := 0) hI (vx_runV (As := [va_rf r30]) (rest := []) E (met_J2_indexOf l G (d + 59) hq) (cwV 1 E.2.2.2.2 (lw_V q1663 q1514 q1515 q124 q1516) rfl rfl rfl hd_J2_indexOf (rm_ok (by omega) (by decide))) (hv_preV hK hI hrv rfl) rfl rfl hl.1 rfl (lv_room (by first | rfl | decide | (simp [va_rf_cat, int_cat, long_cat]; done) | (simp [va_rf_cat, int_cat, long_cat]; decide))) dX1_leaf_91 (hv_fit (by first | exact (Nat.le_refl 0) | omega))) (fun _ _ _ _ _ h => h.elim) (fun x34 y33 H locs hw hI => ?_)
      exact hv_ireti E hr hlocks hI (Nat.le_refl 0) hw dX1_leaf_94
    replace hw := hw.2 c21
    by_cases c36 : i2 = nI 2
    · replace hw := hw.1 c36
      have hti : i2.toInt = 2 := by rw [c36]; decide
      refine lv_tableIn (tgt := 95) (off := 57) E.1 E.2.1 dX1_leaf_38 (by rw [hti]; decide) (by rw [hti]; decide) (by rw [hti]; rfl) (by decide) ?_
      refine hv_aload_n (r := r16) E.1 E.2.1 dX1_leaf_95 rfl (lv_at hl 0 rfl) ?_
      obtain ⟨a37, ea37, hw⟩ := hw
      revert hl hw; subst ea37; intro hl hw
      obtain ⟨f38, ⟨fs, hfs, hfk⟩, hw⟩ := hw
      refine hv_getN (v := .int f38) E hK hI ciX13 1 (Nat.le_of_ble_eq_true rfl) q1093 (fun _ h => h) (Or.inl hfs) hfk dX1_leaf_96 ?_
      refine lv_if_eq (tgt := 106) E.1 E.2.1 dX1_leaf_99 (by decide) (fun c39 => ?_) (fun c39 => ?_)
      · replace hw := hw.1 (c39)
        refine lv_iconst (v := nI 1) E.1 E.2.1 dX1_leaf_106 rfl ?_
        exact hv_ireti E hr hlocks hI (Nat.le_refl 0) hw dX1_leaf_107
      · replace hw := hw.2 (c39)
        refine lv_iconst (v := nI 0) E.1 E.2.1 dX1_leaf_102 rfl ?_
        refine lv_goto (tgt := 107) E.1 E.2.1 dX1_leaf_103 (by decide) ?_
        exact hv_ireti E hr hlocks hI (Nat.le_refl 0) hw dX1_leaf_107
    replace hw := hw.2 c36
    by_cases c40 : i2 = nI 3
    · replace hw := hw.1 c40
      have hti : i2.toInt = 3 := by rw [c40]; decide
      refine lv_tableIn (tgt := 108) (off := 70) E.1 E.2.1 dX1_leaf_38 (by rw [hti]; decide) (by rw [hti]; decide) (by rw [hti]; rfl) (by decide) ?_
      refine hv_aload_n (r := some a0) E.1 E.2.1 dX1_leaf_108 rfl (lv_at hl 1 rfl) ?_
      refine hv_aload_n (r := r16) E.1 E.2.1 dX1_leaf_109 rfl (lv_at hl 0 rfl) ?_
      obtain ⟨⟨fs43, hrv⟩, hw⟩ := hw
      have hq := hw
      clear hw
      refine hv_calli (u := 0) (B1 := 0) hI (vx_runV (As := [va_rf r16]) (rest := []) E (met_X1_staysAt l htr G (d) hq) (cwV 1 E.2.2.2.2 (lw_V q1741 q1743 qs54 q121 q1744) rfl rfl rfl hd_X1_staysAt (rm_ok (by omega) (by decide))) (hv_preV hK hI hrv rfl) rfl rfl hl.1 rfl (lv_room (by first | rfl | decide | (simp [va_rf_cat, int_cat, long_cat]; done) | (simp [va_rf_cat, int_cat, long_cat]; decide))) dX1_leaf_110 (hv_fit (by first | exact (Nat.le_refl 0) | omega))) (fun _ _ _ _ _ h => h.elim) (fun x42 y41 H locs hw hI => ?_)
      exact hv_ireti E hr hlocks hI (Nat.le_refl 0) hw dX1_leaf_113
    replace hw := hw.2 c40
    refine lv_tableOut (tgt := 114) E.1 E.2.1 dX1_leaf_38 (tab_out (fun j h1 h2 h3 => ?_)) (by decide) ?_
    · have hj : j = 0 ∨ j = 1 ∨ j = 2 ∨ j = 3 := by omega
      rcases hj with rfl | rfl | rfl | rfl
      · exact c18 (Int32.toInt_inj.mp (by rw [h3]; decide))
      · exact c21 (Int32.toInt_inj.mp (by rw [h3]; decide))
      · exact c36 (Int32.toInt_inj.mp (by rw [h3]; decide))
      · exact c40 (Int32.toInt_inj.mp (by rw [h3]; decide))
    · skip
      refine lv_iconst (v := (-1)) E.1 E.2.1 dX1_leaf_114 rfl ?_
      exact hv_ireti E hr hlocks hI (Nat.le_refl 0) hw dX1_leaf_115
  · replace hw := hw.2 (bi_z c10)
    refine lv_iconst (v := (-1)) E.1 E.2.1 dX1_leaf_20 rfl ?_
    exact hv_ireti E hr hlocks hI (Nat.le_refl 0) hw dX1_leaf_21
/-- CaseGrouper.keep()I -/
def wp_X1_keep (G : GP) (post : Int32 → HS → Prop) (y0 : HS) (a0 : Nat) : Prop := ∃ f1, fR y0 a0 0 4 f1 ∧ ∃ fs3, y0.1 a0 = some (ob 0 fs3) ∧ 5 < fs3.length ∧ ∀ y2, y2 = hput y0 a0 (ob 0 (fs3.set 5 (va_rf f1))) → ∃ f4, fR y2 a0 0 4 f4 ∧ ∃ a5, f4 = some a5 ∧ ∃ f6, fI y2 a5 1 7 f6 ∧ post f6 y2
theorem hs_X1_keep : yX1_keep.cls ≠ "java/lang/invoke/MethodHandle" ∧ yX1_keep.cls ≠ "java/lang/invoke/VarHandle" ∧ (parseMethodDescriptor yX1_keep.desc).map (fun d => d.parameters.length) = some 0 := by decide +kernel
theorem hd_X1_keep : yX1_keep.cls = RX1 ∧ yX1_keep.cls ≠ "java/lang/invoke/MethodHandle" ∧ yX1_keep.cls ≠ "java/lang/invoke/VarHandle" ∧ (parseMethodDescriptor yX1_keep.desc).map (fun d => d.parameters.length) = some 0 := by decide +kernel
set_option maxHeartbeats 4000000 in
theorem met_X1_keep (l : Launch) (htr : l.stackTraces = false) (G : GP) (d : Nat) {post : Int32 → HS → Prop} {y0 : HS} {a0 : Nat} (hw : wp_X1_keep G post y0 a0) : vx_Met l yX1_keep (ws_ yX1_keep cX1_keep 1 (some .int)) (rmB (d + 0) 0) (hPc G y0 [va_rf (some a0)]) (hQi G y0 post) (hX G y0 (fun _ _ _ => False)) 0 (20 * 0) (HA y0) := by
  unfold wp_X1_keep at hw
  refine hv_met (own := RX1) (by decide) rfl (Nat.le_of_ble_eq_true rfl) ?_
  intro p e s m args below meth c ls E hr hlocks hnm hE hK hI hl
  replace hl : lv_has ls 1 [(0, va_rf (some a0))] := hl
  refine hv_aload_n (r := some a0) E.1 E.2.1 dX1_keep_0 rfl (lv_at hl 0 rfl) ?_
  refine hv_aload_n (r := some a0) E.1 E.2.1 dX1_keep_1 rfl (lv_at hl 0 rfl) ?_
  obtain ⟨f1, ⟨fs, hfs, hfk⟩, hw⟩ := hw
  refine hv_get (v := va_rf f1) E hK hI ciX1 4 (Nat.le_of_ble_eq_true rfl) q1424 (fun _ h => h) (Or.inl hfs) hfk dX1_keep_2 ?_
  obtain ⟨fs3, hfs, hln, hw⟩ := hw
  refine hv_put (v := va_rf f1) E hK hI ciX1 5 (Nat.le_of_ble_eq_true rfl) q1425 (fun _ h => h) rfl (rf_nar _ _ rfl) (rf_fit _ _ rfl) hfs hln dX1_keep_5 (fun H locs hI => ?_)
  obtain ⟨y2, ey2⟩ : ∃ w, w = hput y0 a0 (ob 0 (fs3.set 5 (va_rf f1))) := ⟨_, rfl⟩
  rw [← ey2] at hI
  replace hw := hw y2 ey2
  refine hv_aload_n (r := some a0) E.1 E.2.1 dX1_keep_8 rfl (lv_at hl 0 rfl) ?_
  obtain ⟨f4, ⟨fs, hfs, hfk⟩, hw⟩ := hw
  refine hv_get (v := va_rf f4) E hK hI ciX1 4 (Nat.le_of_ble_eq_true rfl) q1424 (fun _ h => h) (Or.inl hfs) hfk dX1_keep_9 ?_
  obtain ⟨a5, ea5, hw⟩ := hw
  revert hl hw; subst ea5; intro hl hw
  obtain ⟨f6, ⟨fs, hfs, hfk⟩, hw⟩ := hw
  refine hv_getN (v := .int f6) E hK hI ciX2 7 (Nat.le_of_ble_eq_true rfl) q254 (fun _ h => h) (Or.inl hfs) hfk dX1_keep_12 ?_
  exact hv_ireti E hr hlocks hI (Nat.le_refl 0) hw dX1_keep_15
/-- CaseGrouper.isMoved(I)Z -/
def wp_X1_isMoved (G : GP) (post : Bool → HS → Prop) (y0 : HS) (a0 : Nat) (i1 : Int32) : Prop := ∃ J1 : HS → Prop, (∀ (y3 : HS), J1 y3  → ∃ f4, fR y3 a0 0 6 f4 ∧ ∃ a5, f4 = some a5 ∧ ∃ f6, fR y3 a5 2 5 f6 ∧ ∃ f7, fR y3 a0 0 7 f7 ∧ ∃ a8, f7 = some a8 ∧ ∃ f9, fR y3 a8 2 5 f9 ∧ (f6 = f9 → post false y3) ∧ (¬ f6 = f9 → post true y3)) ∧ ((∃ fs12, rd G y0 a0 (ob 0 fs12)) ∧ wp_X1_looks G (fun y11 => ∃ f13, fR y11 a0 0 7 f13 ∧ ∃ f14, fR y11 a0 0 5 f14 ∧ ∃ f15, fR y11 a0 0 3 f15 ∧ ∃ a16, f15 = some a16 ∧ (∃ fs19, rd G y11 a16 (ob 18 fs19)) ∧ wp_J2_get G (fun r18 y17 => isOf G y17 r18 17 ∧ ∃ a20, f13 = some a20 ∧ (∃ fs22, rd G y17 a20 (ob 2 fs22)) ∧ wp_X4_looks G (fun y21 => ∃ f23, fR y21 a0 0 6 f23 ∧ ∃ a24, f23 = some a24 ∧ ∃ f25, fR y21 a24 2 5 f25 ∧ (f25 = none → J1 y21 ) ∧ (∀ a27, f25 = some a27 → ∃ f28, fR y21 a0 0 7 f28 ∧ ∃ a29, f28 = some a29 ∧ ∃ f30, fR y21 a29 2 5 f30 ∧ (f30 = none → J1 y21 ) ∧ (∀ a32, f30 = some a32 → ∃ f33, fR y21 a0 0 4 f33 ∧ ∃ f34, fR y21 a0 0 6 f34 ∧ ∃ a35, f34 = some a35 ∧ (∃ fs38, rd G y21 a35 (ob 2 fs38)) ∧ wp_X4_cls G (fun x37 y36 => ∃ f39, fR y36 a0 0 5 f39 ∧ ∃ a40, f39 = some a40 ∧ ∃ f41, fR y36 a40 1 5 f41 ∧ ∃ f42, fR y36 a0 0 7 f42 ∧ ∃ a43, f42 = some a43 ∧ (∃ fs46, rd G y36 a43 (ob 2 fs46)) ∧ wp_X4_cls G (fun x45 y44 => ∃ a47, f41 = some a47 ∧ ∃ (n48 : Nat) (g49 : Nat → Option Nat), rd G y44 a47 (ar 7 n48 g49) ∧ vp_in x45 n48 ∧ ∃ a50, f33 = some a50 ∧ (∃ fs53, rd G y44 a50 (ob 1 fs53)) ∧ wp_X2_isCalled G (fun b52 y51 => (b52 = true → post false y51) ∧ (b52 = false → post true y51)) y44 a50 x37 (g49 x45.toNatClampNeg)) y36 a43) y21 a35))) y17 a20 f14 r18) y11 a16 i1) y0 a0 i1)
theorem hs_X1_isMoved : yX1_isMoved.cls ≠ "java/lang/invoke/MethodHandle" ∧ yX1_isMoved.cls ≠ "java/lang/invoke/VarHandle" ∧ (parseMethodDescriptor yX1_isMoved.desc).map (fun d => d.parameters.length) = some 1 := by decide +kernel
theorem hd_X1_isMoved : yX1_isMoved.cls = RX1 ∧ yX1_isMoved.cls ≠ "java/lang/invoke/MethodHandle" ∧ yX1_isMoved.cls ≠ "java/lang/invoke/VarHandle" ∧ (parseMethodDescriptor yX1_isMoved.desc).map (fun d => d.parameters.length) = some 1 := by decide +kernel
set_option maxHeartbeats 4000000 in
theorem met_X1_isMoved (l : Launch) (htr : l.stackTraces = false) (G : GP) (d : Nat) {post : Bool → HS → Prop} {y0 : HS} {a0 : Nat} {i1 : Int32} (hw : wp_X1_isMoved G post y0 a0 i1) : vx_Met l yX1_isMoved (ws_ yX1_isMoved cX1_isMoved 2 (some .boolean)) (rmB (d + 62) 0) (hPc G y0 [va_rf (some a0), .int (i1)]) (hQz G y0 post) (hX G y0 (fun _ _ _ => False)) 0 (20 * 0) (HA y0) := by
  unfold wp_X1_isMoved at hw
  refine hv_met (own := RX1) (by decide) rfl (Nat.le_of_ble_eq_true rfl) ?_
  intro p e s m args below meth c ls E hr hlocks hnm hE hK hI hl
  replace hl : lv_has ls 2 [(0, va_rf (some a0)), (1, .int (i1))] := hl
  obtain ⟨J1, hj55, hw⟩ := hw
  have jh2 : ∀ (y3 : HS), J1 y3  → ∀ (H : Heap) (locs : List Loc) (ls : Array Slot), HI G y0 y3 s H locs → lv_has ls 2 [(0, va_rf (some a0))] → W p l e (rmB (d + 62) 0) s m args below meth c H locs 0 (20 * 0) (vx_MQ below (hQz G y0 post) (hX G y0 (fun _ _ _ => False)) args s 0 (20 * 0) (HA y0)) (F0 m 47 ls []) := by
    intro y3 hw H locs ls hI hl
    replace hw := hj55 y3 hw
    refine hv_aload_n (r := some a0) E.1 E.2.1 dX1_isMoved_47 rfl (lv_at hl 0 rfl) ?_
    obtain ⟨f4, ⟨fs, hfs, hfk⟩, hw⟩ := hw
    refine hv_get (v := va_rf f4) E hK hI ciX1 6 (Nat.le_of_ble_eq_true rfl) q1426 (fun _ h => h) (Or.inl hfs) hfk dX1_isMoved_48 ?_
    obtain ⟨a5, ea5, hw⟩ := hw
    revert hl hw; subst ea5; intro hl hw
    obtain ⟨f6, ⟨fs, hfs, hfk⟩, hw⟩ := hw
    refine hv_getN (v := va_rf f6) E hK hI ciX4 5 (Nat.le_of_ble_eq_true rfl) q1397 (fun _ h => h) (Or.inl hfs) hfk dX1_isMoved_51 ?_
    refine hv_aload_n (r := some a0) E.1 E.2.1 dX1_isMoved_54 rfl (lv_at hl 0 rfl) ?_
    obtain ⟨f7, ⟨fs, hfs, hfk⟩, hw⟩ := hw
    refine hv_get (v := va_rf f7) E hK hI ciX1 7 (Nat.le_of_ble_eq_true rfl) q1427 (fun _ h => h) (Or.inl hfs) hfk dX1_isMoved_55 ?_
    obtain ⟨a8, ea8, hw⟩ := hw
    revert hl hw; subst ea8; intro hl hw
    obtain ⟨f9, ⟨fs, hfs, hfk⟩, hw⟩ := hw
    refine hv_getN (v := va_rf f9) E hK hI ciX4 5 (Nat.le_of_ble_eq_true rfl) q1397 (fun _ h => h) (Or.inl hfs) hfk dX1_isMoved_58 ?_
    refine lv_acmp_eq (rx := f6) (ry := f9) (tgt := 68) E.1 E.2.1 dX1_isMoved_61 (by decide) (fun c10 => ?_) (fun c10 => ?_)
    · replace hw := hw.1 (c10)
      refine lv_iconst (v := nI 0) E.1 E.2.1 dX1_isMoved_68 rfl ?_
      exact hv_iretz (b := false) E hr hlocks hI (Nat.le_refl 0) rfl hw dX1_isMoved_69
    · replace hw := hw.2 (c10)
      refine lv_iconst (v := nI 1) E.1 E.2.1 dX1_isMoved_64 rfl ?_
      refine lv_goto (tgt := 69) E.1 E.2.1 dX1_isMoved_65 (by decide) ?_
      exact hv_iretz (b := true) E hr hlocks hI (Nat.le_refl 0) rfl hw dX1_isMoved_69
  refine hv_aload_n (r := some a0) E.1 E.2.1 dX1_isMoved_0 rfl (lv_at hl 0 rfl) ?_
  refine lv_iload_n E.1 E.2.1 dX1_isMoved_1 rfl (lv_at hl 1 rfl) ?_
  obtain ⟨⟨fs12, hrv⟩, hw⟩ := hw
  have hq := hw
  clear hw
  refine hv_callv (u := 0) (B1 := 0) hI (vx_runV (As := [.int (i1)]) (rest := []) E (met_X1_looks l htr G (d) hq) (cwV 1 E.2.2.2.2 (lw_V q1611 q1613 qs47 q121 q1614) rfl rfl rfl hd_X1_looks (rm_ok (by omega) (by decide))) (hv_preV hK hI hrv rfl) rfl rfl hl.1 rfl (lv_room (by first | rfl | decide | (simp [va_rf_cat, int_cat, long_cat]; done) | (simp [va_rf_cat, int_cat, long_cat]; decide))) dX1_isMoved_2 (hv_fit (by first | exact (Nat.le_refl 0) | omega))) (fun _ _ _ _ _ h => h.elim) (fun y11 H locs hw hI => ?_)
  refine hv_aload_n (r := some a0) E.1 E.2.1 dX1_isMoved_5 rfl (lv_at hl 0 rfl) ?_
  obtain ⟨f13, ⟨fs, hfs, hfk⟩, hw⟩ := hw
  refine hv_get (v := va_rf f13) E hK hI ciX1 7 (Nat.le_of_ble_eq_true rfl) q1427 (fun _ h => h) (Or.inl hfs) hfk dX1_isMoved_6 ?_
  refine hv_aload_n (r := some a0) E.1 E.2.1 dX1_isMoved_9 rfl (lv_at hl 0 rfl) ?_
  obtain ⟨f14, ⟨fs, hfs, hfk⟩, hw⟩ := hw
  refine hv_get (v := va_rf f14) E hK hI ciX1 5 (Nat.le_of_ble_eq_true rfl) q1425 (fun _ h => h) (Or.inl hfs) hfk dX1_isMoved_10 ?_
  refine hv_aload_n (r := some a0) E.1 E.2.1 dX1_isMoved_13 rfl (lv_at hl 0 rfl) ?_
  obtain ⟨f15, ⟨fs, hfs, hfk⟩, hw⟩ := hw
  refine hv_get (v := va_rf f15) E hK hI ciX1 3 (Nat.le_of_ble_eq_true rfl) q1423 (fun _ h => h) (Or.inl hfs) hfk dX1_isMoved_14 ?_
  refine lv_iload_n E.1 E.2.1 dX1_isMoved_17 rfl (lv_at hl 1 rfl) ?_
  obtain ⟨a16, ea16, hw⟩ := hw
  revert hl hw; subst ea16; intro hl hw
  obtain ⟨⟨fs19, hrv⟩, hw⟩ := hw
  have hq := hw
  clear hw
  refine hv_callq (u := 0) (B1 := 0) hI (vx_runV (As := [.int (i1)]) (rest := [va_rf f14, va_rf f13]) E (met_J2_get l G (d + 59) hq) (cwV 1 E.2.2.2.2 (lw_V q1495 q785 q786 q124 q787) rfl rfl rfl hd_J2_get (rm_ok (by omega) (by decide))) (hv_preV hK hI hrv rfl) rfl rfl hl.1 rfl (lv_room (by first | rfl | decide | (simp [va_rf_cat, int_cat, long_cat]; done) | (simp [va_rf_cat, int_cat, long_cat]; decide))) dX1_isMoved_18 (hv_fit (by first | exact (Nat.le_refl 0) | omega))) (fun _ _ _ _ _ h => h.elim) (fun r18 y17 H locs hw hI => ?_)
  obtain ⟨hof, hw⟩ := hw
  refine hv_castC (cn := 17) E hK hI (by decide) q1454 hof dX1_isMoved_21 ?_
  obtain ⟨a20, ea20, hw⟩ := hw
  revert hl hw; subst ea20; intro hl hw
  obtain ⟨⟨fs22, hrv⟩, hw⟩ := hw
  have hq := hw
  clear hw
  refine hv_callv (u := 0) (B1 := 0) hI (vx_runV (As := [va_rf f14, va_rf r18]) (rest := []) E (met_X4_looks l G (d + 1) hq) (cwV 2 E.2.2.2.2 (lw_V q1615 q1616 q1617 q127 q1618) rfl rfl rfl hd_X4_looks (rm_ok (by omega) (by decide))) (hv_preV hK hI hrv rfl) rfl rfl hl.1 rfl (lv_room (by first | rfl | decide | (simp [va_rf_cat, int_cat, long_cat]; done) | (simp [va_rf_cat, int_cat, long_cat]; decide))) dX1_isMoved_24 (hv_fit (by first | exact (Nat.le_refl 0) | omega))) (fun _ _ _ _ _ h => h.elim) (fun y21 H locs hw hI => ?_)
  refine hv_aload_n (r := some a0) E.1 E.2.1 dX1_isMoved_27 rfl (lv_at hl 0 rfl) ?_
  obtain ⟨f23, ⟨fs, hfs, hfk⟩, hw⟩ := hw
  refine hv_get (v := va_rf f23) E hK hI ciX1 6 (Nat.le_of_ble_eq_true rfl) q1426 (fun _ h => h) (Or.inl hfs) hfk dX1_isMoved_28 ?_
  obtain ⟨a24, ea24, hw⟩ := hw
  revert hl hw; subst ea24; intro hl hw
  obtain ⟨f25, ⟨fs, hfs, hfk⟩, hw⟩ := hw
  refine hv_getN (v := va_rf f25) E hK hI ciX4 5 (Nat.le_of_ble_eq_true rfl) q1397 (fun _ h => h) (Or.inl hfs) hfk dX1_isMoved_31 ?_
  refine hv_ifnull (r := f25) (tgt := 47) E.1 E.2.1 dX1_isMoved_34 (by decide) (fun c26 => ?_) (fun a27 c26 => ?_)
  · replace hw := hw.1 c26
    exact jh2 _ hw _ _ _ hI (lv_sub hl [0] rfl)
  · replace hw := hw.2 a27 c26
    revert hl hw; subst c26; intro hl hw
    refine hv_aload_n (r := some a0) E.1 E.2.1 dX1_isMoved_37 rfl (lv_at hl 0 rfl) ?_
    obtain ⟨f28, ⟨fs, hfs, hfk⟩, hw⟩ := hw
    refine hv_get (v := va_rf f28) E hK hI ciX1 7 (Nat.le_of_ble_eq_true rfl) q1427 (fun _ h => h) (Or.inl hfs) hfk dX1_isMoved_38 ?_
    obtain ⟨a29, ea29, hw⟩ := hw
    revert hl hw; subst ea29; intro hl hw
    obtain ⟨f30, ⟨fs, hfs, hfk⟩, hw⟩ := hw
    refine hv_getN (v := va_rf f30) E hK hI ciX4 5 (Nat.le_of_ble_eq_true rfl) q1397 (fun _ h => h) (Or.inl hfs) hfk dX1_isMoved_41 ?_
    refine hv_ifnonnull (r := f30) (tgt := 70) E.1 E.2.1 dX1_isMoved_44 (by decide) (fun a32 c31 => ?_) (fun c31 => ?_)
    · replace hw := hw.2 a32 c31
      revert hl hw; subst c31; intro hl hw
      refine hv_aload_n (r := some a0) E.1 E.2.1 dX1_isMoved_70 rfl (lv_at hl 0 rfl) ?_
      obtain ⟨f33, ⟨fs, hfs, hfk⟩, hw⟩ := hw
      refine hv_get (v := va_rf f33) E hK hI ciX1 4 (Nat.le_of_ble_eq_true rfl) q1424 (fun _ h => h) (Or.inl hfs) hfk dX1_isMoved_71 ?_
      refine hv_aload_n (r := some a0) E.1 E.2.1 dX1_isMoved_74 rfl (lv_at hl 0 rfl) ?_
      obtain ⟨f34, ⟨fs, hfs, hfk⟩, hw⟩ := hw
      refine hv_get (v := va_rf f34) E hK hI ciX1 6 (Nat.le_of_ble_eq_true rfl) q1426 (fun _ h => h) (Or.inl hfs) hfk dX1_isMoved_75 ?_
      obtain ⟨a35, ea35, hw⟩ := hw
      revert hl hw; subst ea35; intro hl hw
      obtain ⟨⟨fs38, hrv⟩, hw⟩ := hw
      have hq := hw
      clear hw
      refine hv_calli (u := 0) (B1 := 0) hI (vx_runV (As := []) (rest := [va_rf f33]) E (met_X4_cls l G (d + 61) hq) (cwV 0 E.2.2.2.2 (lw_V q1655 q1656 q1657 q127 q1658) rfl rfl rfl hd_X4_cls (rm_ok (by omega) (by decide))) (hv_preV hK hI hrv rfl) rfl rfl hl.1 rfl (lv_room (by first | rfl | decide | (simp [va_rf_cat, int_cat, long_cat]; done) | (simp [va_rf_cat, int_cat, long_cat]; decide))) dX1_isMoved_78 (hv_fit (by first | exact (Nat.le_refl 0) | omega))) (fun _ _ _ _ _ h => h.elim) (fun x37 y36 H locs hw hI => ?_)
      refine hv_aload_n (r := some a0) E.1 E.2.1 dX1_isMoved_81 rfl (lv_at hl 0 rfl) ?_
      obtain ⟨f39, ⟨fs, hfs, hfk⟩, hw⟩ := hw
      refine hv_get (v := va_rf f39) E hK hI ciX1 5 (Nat.le_of_ble_eq_true rfl) q1425 (fun _ h => h) (Or.inl hfs) hfk dX1_isMoved_82 ?_
      obtain ⟨a40, ea40, hw⟩ := hw
      revert hl hw; subst ea40; intro hl hw
      obtain ⟨f41, ⟨fs, hfs, hfk⟩, hw⟩ := hw
      refine hv_getN (v := va_rf f41) E hK hI ciX2 5 (Nat.le_of_ble_eq_true rfl) q247 (fun _ h => h) (Or.inl hfs) hfk dX1_isMoved_85 ?_
      refine hv_aload_n (r := some a0) E.1 E.2.1 dX1_isMoved_88 rfl (lv_at hl 0 rfl) ?_
      obtain ⟨f42, ⟨fs, hfs, hfk⟩, hw⟩ := hw
      refine hv_get (v := va_rf f42) E hK hI ciX1 7 (Nat.le_of_ble_eq_true rfl) q1427 (fun _ h => h) (Or.inl hfs) hfk dX1_isMoved_89 ?_
      obtain ⟨a43, ea43, hw⟩ := hw
      revert hl hw; subst ea43; intro hl hw
      obtain ⟨⟨fs46, hrv⟩, hw⟩ := hw
      have hq := hw
      clear hw
      refine hv_calli (u := 0) (B1 := 0) hI (vx_runV (As := []) (rest := [va_rf f41, .int (x37), va_rf f33]) E (met_X4_cls l G (d + 61) hq) (cwV 0 E.2.2.2.2 (lw_V q1655 q1656 q1657 q127 q1658) rfl rfl rfl hd_X4_cls (rm_ok (by omega) (by decide))) (hv_preV hK hI hrv rfl) rfl rfl hl.1 rfl (lv_room (by first | rfl | decide | (simp [va_rf_cat, int_cat, long_cat]; done) | (simp [va_rf_cat, int_cat, long_cat]; decide))) dX1_isMoved_92 (hv_fit (by first | exact (Nat.le_refl 0) | omega))) (fun _ _ _ _ _ h => h.elim) (fun x45 y44 H locs hw hI => ?_)
      obtain ⟨a47, ea47, hw⟩ := hw
      revert hl hw; subst ea47; intro hl hw
      obtain ⟨n48, g49, hra, hin, hw⟩ := hw
      refine hv_aald E hK hI hra rfl rfl hin dX1_isMoved_95 ?_
      obtain ⟨a50, ea50, hw⟩ := hw
      revert hl hw; subst ea50; intro hl hw
      obtain ⟨⟨fs53, hrv⟩, hw⟩ := hw
      have hq := hw
      clear hw
      refine hv_callz (u := 0) (B1 := 0) hI (vx_runV (As := [.int (x37), va_rf (g49 x45.toNatClampNeg)]) (rest := []) E (met_X2_isCalled l G (d + 61) hq) (cwV 2 E.2.2.2.2 (lw_V q1758 q1076 q1077 q125 q1078) rfl rfl rfl hd_X2_isCalled (rm_ok (by omega) (by decide))) (hv_preV hK hI hrv rfl) rfl rfl hl.1 rfl (lv_room (by first | rfl | decide | (simp [va_rf_cat, int_cat, long_cat]; done) | (simp [va_rf_cat, int_cat, long_cat]; decide))) dX1_isMoved_96 (hv_fit (by first | exact (Nat.le_refl 0) | omega))) (fun _ _ _ _ _ h => h.elim) (fun b52 y51 H locs hw hI => ?_)
      refine lv_if_ne (tgt := 106) E.1 E.2.1 dX1_isMoved_99 (by decide) (fun c54 => ?_) (fun c54 => ?_)
      · replace hw := hw.1 (bi_n c54)
        refine lv_iconst (v := nI 0) E.1 E.2.1 dX1_isMoved_106 rfl ?_
        exact hv_iretz (b := false) E hr hlocks hI (Nat.le_refl 0) rfl hw dX1_isMoved_107
      · replace hw := hw.2 (bi_z c54)
        refine lv_iconst (v := nI 1) E.1 E.2.1 dX1_isMoved_102 rfl ?_
        refine lv_goto (tgt := 107) E.1 E.2.1 dX1_isMoved_103 (by decide) ?_
        exact hv_iretz (b := true) E hr hlocks hI (Nat.le_refl 0) rfl hw dX1_isMoved_107
    · replace hw := hw.1 c31
      exact jh2 _ hw _ _ _ hI (lv_sub hl [0] rfl)
/-- CaseGrouper.compare(I)I -/
def wp_X1_compare (G : GP) (post : Int32 → HS → Prop) (y0 : HS) (a0 : Nat) (i1 : Int32) : Prop := ∃ f1, fR y0 a0 0 5 f1 ∧ (f1 = none → post ((-100000)) y0) ∧ (∀ a3, f1 = some a3 → wp_X1_within G (fun b5 y4 => (b5 = true → ∃ I7 : Nat → HS → Int32 → Int32 → Int32 → Int32 → Prop, (∃ n16, I7 n16 y4 (nI 0) (nI 0) ((-1)) (nI 0)) ∧ ∀ (n8 : Nat) (y9 : HS) (x12 : Int32) (x13 : Int32) (x14 : Int32) (x15 : Int32), I7 n8 y9 x12 x13 x14 x15 → ∃ f17, fR y9 a0 0 3 f17 ∧ ∃ a18, f17 = some a18 ∧ (∃ fs21, rd G y9 a18 (ob 18 fs21)) ∧ wp_J2_size G (fun x20 y19 => (x20 ≤ x15 → (¬ i1 = 0 → (¬ i1 = (nI 1) → post x14 y19) ∧ (i1 = (nI 1) → post x13 y19)) ∧ (i1 = 0 → post x12 y19)) ∧ (¬ x20 ≤ x15 → ∃ J25 : HS → Bool → Int32 → Prop, (∀ (y27 : HS) (b28 : Bool) (x29 : Int32), J25 y27 b28 x29 → ∃ J30 : HS → Int32 → Bool → Int32 → Prop, (∀ (y32 : HS) (x33 : Int32) (b34 : Bool) (x35 : Int32), J30 y32 x33 b34 x35 → ∀ x36, x36 = x35 + (bi b34) → ∃ f37, fR y32 a0 0 7 f37 ∧ ∃ a38, f37 = some a38 ∧ (∃ fs41, rd G y32 a38 (ob 2 fs41)) ∧ wp_X4_weight G (fun x40 y39 => ∃ f42, fR y39 a0 0 6 f42 ∧ ∃ a43, f42 = some a43 ∧ (∃ fs46, rd G y39 a43 (ob 2 fs46)) ∧ wp_X4_weight G (fun x45 y44 => ∀ x47, x47 = x13 + (x40 - x45) → ∃ n48, n48 < n8 ∧ I7 n48 y44 x36 x47 x33 (x15 + nI 1)) y39 a43) y32 a38) ∧ ((b28 = false → J30 y27 x29 false x12) ∧ (b28 = true → J30 y27 x29 true x12))) ∧ (∃ J51 : HS → Bool → Prop, (∀ (y53 : HS) (b54 : Bool), J51 y53 b54 → J25 y53 b54 x14) ∧ ((∃ fs57, rd G y19 a0 (ob 0 fs57)) ∧ wp_X1_isMoved G (fun b56 y55 => (b56 = false → J51 y55 b56) ∧ (b56 = true → (0 ≤ x14 → J51 y55 b56) ∧ (¬ 0 ≤ x14 → J25 y55 b56 x15))) y19 a0 x15)))) y9 a18) ∧ (b5 = false → post ((-100000)) y4)) y0 i1 (nI 0) (nI 2))
theorem hs_X1_compare : yX1_compare.cls ≠ "java/lang/invoke/MethodHandle" ∧ yX1_compare.cls ≠ "java/lang/invoke/VarHandle" ∧ (parseMethodDescriptor yX1_compare.desc).map (fun d => d.parameters.length) = some 1 := by decide +kernel
theorem hd_X1_compare : yX1_compare.cls = RX1 ∧ yX1_compare.cls ≠ "java/lang/invoke/MethodHandle" ∧ yX1_compare.cls ≠ "java/lang/invoke/VarHandle" ∧ (parseMethodDescriptor yX1_compare.desc).map (fun d => d.parameters.length) = some 1 := by decide +kernel
set_option maxHeartbeats 4000000 in
theorem met_X1_compare (l : Launch) (htr : l.stackTraces = false) (G : GP) (d : Nat) {post : Int32 → HS → Prop} {y0 : HS} {a0 : Nat} {i1 : Int32} (hw : wp_X1_compare G post y0 a0 i1) : vx_Met l yX1_compare (ws_ yX1_compare cX1_compare 7 (some .int)) (rmB (d + 63) 0) (hPc G y0 [va_rf (some a0), .int (i1)]) (hQi G y0 post) (hX G y0 (fun _ _ _ => False)) 0 (20 * 0) (HA y0) := by
  unfold wp_X1_compare at hw
  refine hv_met (own := RX1) (by decide) rfl (Nat.le_of_ble_eq_true rfl) ?_
  intro p e s m args below meth c ls E hr hlocks hnm hE hK hI hl
  replace hl : lv_has ls 7 [(0, va_rf (some a0)), (1, .int (i1))] := hl
  refine hv_aload_n (r := some a0) E.1 E.2.1 dX1_compare_0 rfl (lv_at hl 0 rfl) ?_
  obtain ⟨f1, ⟨fs, hfs, hfk⟩, hw⟩ := hw
  refine hv_get (v := va_rf f1) E hK hI ciX1 5 (Nat.le_of_ble_eq_true rfl) q1425 (fun _ h => h) (Or.inl hfs) hfk dX1_compare_1 ?_
  refine hv_ifnull (r := f1) (tgt := 16) E.1 E.2.1 dX1_compare_4 (by decide) (fun c2 => ?_) (fun a3 c2 => ?_)
  · replace hw := hw.1 c2
    refine lv_ldcw (v := (-100000)) E.1 E.2.1 E.2.2.2.1 (E.2.2.2.2 _ q1753) dX1_compare_16 ?_
    exact hv_ireti E hr hlocks hI (Nat.le_refl 0) hw dX1_compare_19
  · replace hw := hw.2 a3 c2
    revert hl hw; subst c2; intro hl hw
    refine lv_iload_n E.1 E.2.1 dX1_compare_7 rfl (lv_at hl 1 rfl) ?_
    refine lv_iconst (v := nI 0) E.1 E.2.1 dX1_compare_8 rfl ?_
    refine lv_iconst (v := nI 2) E.1 E.2.1 dX1_compare_9 rfl ?_
    have hq := hw
    clear hw
    refine hv_callz (u := 0) (B1 := 0) hI (vx_runS (As := [.int (i1), .int (nI 0), .int (nI 2)]) (rest := []) E (met_X1_within l G (d + 62) hq) (va_cwS 3 E.2.2.2.2 (lw_S q180 q181 q121 q182) rfl rfl rfl hs_X1_within (rm_ok (by omega) (by decide))) (hv_preS hK hI) rfl rfl hl.1 rfl (lv_room (by first | rfl | decide | (simp [va_rf_cat, int_cat, long_cat]; done) | (simp [va_rf_cat, int_cat, long_cat]; decide))) dX1_compare_10 (hv_fit (by first | exact (Nat.le_refl 0) | omega))) (fun _ _ _ _ _ h => h.elim) (fun b5 y4 H locs hw hI => ?_)
    refine lv_if_ne (tgt := 20) E.1 E.2.1 dX1_compare_13 (by decide) (fun c6 => ?_) (fun c6 => ?_)
    · replace hw := hw.1 (bi_n c6)
      refine lv_iconst (v := nI 0) E.1 E.2.1 dX1_compare_20 rfl ?_
      refine lv_istore_n (lv' := [(2, .int (nI 0)), (0, va_rf (some a0)), (1, .int (i1))]) E.1 E.2.1 dX1_compare_21 rfl hl (Nat.le_of_ble_eq_true rfl) (by first | rfl | decide | (simp [va_rf_cat, int_cat, long_cat]; done) | (simp [va_rf_cat, int_cat, long_cat]; decide)) (fun ls hl => ?_)
      refine lv_iconst (v := nI 0) E.1 E.2.1 dX1_compare_22 rfl ?_
      refine lv_istore_n (lv' := [(3, .int (nI 0)), (2, .int (nI 0)), (0, va_rf (some a0)), (1, .int (i1))]) E.1 E.2.1 dX1_compare_23 rfl hl (Nat.le_of_ble_eq_true rfl) (by first | rfl | decide | (simp [va_rf_cat, int_cat, long_cat]; done) | (simp [va_rf_cat, int_cat, long_cat]; decide)) (fun ls hl => ?_)
      refine lv_iconst (v := (-1)) E.1 E.2.1 dX1_compare_24 rfl ?_
      refine lv_istore (lv' := [(4, .int ((-1))), (3, .int (nI 0)), (2, .int (nI 0)), (0, va_rf (some a0)), (1, .int (i1))]) E.1 E.2.1 dX1_compare_25 hl (Nat.le_of_ble_eq_true rfl) (by first | rfl | decide | (simp [va_rf_cat, int_cat, long_cat]; done) | (simp [va_rf_cat, int_cat, long_cat]; decide)) (fun ls hl => ?_)
      refine lv_iconst (v := nI 0) E.1 E.2.1 dX1_compare_27 rfl ?_
      refine lv_istore (lv' := [(5, .int (nI 0)), (4, .int ((-1))), (3, .int (nI 0)), (2, .int (nI 0)), (0, va_rf (some a0)), (1, .int (i1))]) E.1 E.2.1 dX1_compare_28 hl (Nat.le_of_ble_eq_true rfl) (by first | rfl | decide | (simp [va_rf_cat, int_cat, long_cat]; done) | (simp [va_rf_cat, int_cat, long_cat]; decide)) (fun ls hl => ?_)
      obtain ⟨I7, ⟨n16, hi63⟩, hb62⟩ := hw
      have L11 : ∀ (n8 : Nat) (y9 : HS) (x12 : Int32) (x13 : Int32) (x14 : Int32) (x15 : Int32), I7 n8 y9 x12 x13 x14 x15 → ∀ (H : Heap) (locs : List Loc) (ls : Array Slot), HI G y0 y9 s H locs → lv_has ls 7 [(0, va_rf (some a0)), (1, .int (i1)), (2, .int (x12)), (3, .int (x13)), (4, .int (x14)), (5, .int (x15))] → W p l e (rmB (d + 63) 0) s m args below meth c H locs 0 (20 * 0) (vx_MQ below (hQi G y0 post) (hX G y0 (fun _ _ _ => False)) args s 0 (20 * 0) (HA y0)) (F0 m 30 ls []) := by
        intro n8
        induction n8 using Nat.strongRecOn with
        | _ n8 ih10 =>
          intro y9 x12 x13 x14 x15 hw H locs ls hI hl
          replace hw := hb62 n8 y9 x12 x13 x14 x15 hw
          refine lv_iload E.1 E.2.1 dX1_compare_30 (lv_at hl 5 rfl) ?_
          refine hv_aload_n (r := some a0) E.1 E.2.1 dX1_compare_32 rfl (lv_at hl 0 rfl) ?_
          obtain ⟨f17, ⟨fs, hfs, hfk⟩, hw⟩ := hw
          refine hv_get (v := va_rf f17) E hK hI ciX1 3 (Nat.le_of_ble_eq_true rfl) q1423 (fun _ h => h) (Or.inl hfs) hfk dX1_compare_33 ?_
          obtain ⟨a18, ea18, hw⟩ := hw
          revert hl hw; subst ea18; intro hl hw
          obtain ⟨⟨fs21, hrv⟩, hw⟩ := hw
          have hq := hw
          clear hw
          refine hv_calli (u := 0) (B1 := 0) hI (vx_runV (As := []) (rest := [.int (x15)]) E (met_J2_size l G (d + 62) hq) (cwV 0 E.2.2.2.2 (lw_V q1453 q752 q753 q124 q754) rfl rfl rfl hd_J2_size (rm_ok (by omega) (by decide))) (hv_preV hK hI hrv rfl) rfl rfl hl.1 rfl (lv_room (by first | rfl | decide | (simp [va_rf_cat, int_cat, long_cat]; done) | (simp [va_rf_cat, int_cat, long_cat]; decide))) dX1_compare_36 (hv_fit (by first | exact (Nat.le_refl 0) | omega))) (fun _ _ _ _ _ h => h.elim) (fun x20 y19 H locs hw hI => ?_)
          refine lv_icmp_ge (tgt := 106) E.1 E.2.1 dX1_compare_39 (by decide) (fun c22 => ?_) (fun c22 => ?_)
          · replace hw := hw.1 (c22)
            refine lv_iload_n E.1 E.2.1 dX1_compare_106 rfl (lv_at hl 1 rfl) ?_
            refine lv_if_ne (tgt := 114) E.1 E.2.1 dX1_compare_107 (by decide) (fun c23 => ?_) (fun c23 => ?_)
            · replace hw := hw.1 (c23)
              refine lv_iload_n E.1 E.2.1 dX1_compare_114 rfl (lv_at hl 1 rfl) ?_
              refine lv_iconst (v := nI 1) E.1 E.2.1 dX1_compare_115 rfl ?_
              refine lv_icmp_ne (tgt := 123) E.1 E.2.1 dX1_compare_116 (by decide) (fun c24 => ?_) (fun c24 => ?_)
              · replace hw := hw.1 (c24)
                refine lv_iload E.1 E.2.1 dX1_compare_123 (lv_at hl 4 rfl) ?_
                exact hv_ireti E hr hlocks hI (Nat.le_refl 0) hw dX1_compare_125
              · replace hw := hw.2 (c24)
                refine lv_iload_n E.1 E.2.1 dX1_compare_119 rfl (lv_at hl 3 rfl) ?_
                refine lv_goto (tgt := 125) E.1 E.2.1 dX1_compare_120 (by decide) ?_
                exact hv_ireti E hr hlocks hI (Nat.le_refl 0) hw dX1_compare_125
            · replace hw := hw.2 (c23)
              refine lv_iload_n E.1 E.2.1 dX1_compare_110 rfl (lv_at hl 2 rfl) ?_
              refine lv_goto (tgt := 125) E.1 E.2.1 dX1_compare_111 (by decide) ?_
              exact hv_ireti E hr hlocks hI (Nat.le_refl 0) hw dX1_compare_125
          · replace hw := hw.2 (c22)
            obtain ⟨J25, hj61, hw⟩ := hw
            have jh26 : ∀ (y27 : HS) (b28 : Bool) (x29 : Int32), J25 y27 b28 x29 → ∀ (H : Heap) (locs : List Loc) (ls : Array Slot), HI G y0 y27 s H locs → lv_has ls 7 [(0, va_rf (some a0)), (1, .int (i1)), (2, .int (x12)), (3, .int (x13)), (5, .int (x15)), (6, .int (bi b28))] → W p l e (rmB (d + 63) 0) s m args below meth c H locs 0 (20 * 0) (vx_MQ below (hQi G y0 post) (hX G y0 (fun _ _ _ => False)) args s 0 (20 * 0) (HA y0)) (F0 m 67 ls [.int (x29)]) := by
              intro y27 b28 x29 hw H locs ls hI hl
              replace hw := hj61 y27 b28 x29 hw
              obtain ⟨J30, hj50, hw⟩ := hw
              have jh31 : ∀ (y32 : HS) (x33 : Int32) (b34 : Bool) (x35 : Int32), J30 y32 x33 b34 x35 → ∀ (H : Heap) (locs : List Loc) (ls : Array Slot), HI G y0 y32 s H locs → lv_has ls 7 [(0, va_rf (some a0)), (1, .int (i1)), (3, .int (x13)), (4, .int (x33)), (5, .int (x15))] → W p l e (rmB (d + 63) 0) s m args below meth c H locs 0 (20 * 0) (vx_MQ below (hQi G y0 post) (hX G y0 (fun _ _ _ => False)) args s 0 (20 * 0) (HA y0)) (F0 m 80 ls [.int (bi b34), .int (x35)]) := by
                intro y32 x33 b34 x35 hw H locs ls hI hl
                replace hw := hj50 y32 x33 b34 x35 hw
                refine lv_iadd E.1 E.2.1 dX1_compare_80 ?_
                refine lv_topi (fun x36 ex36 => ?_)
                replace hw := hw x36 ex36
                refine lv_istore_n (lv' := [(2, .int (x36)), (0, va_rf (some a0)), (1, .int (i1)), (3, .int (x13)), (4, .int (x33)), (5, .int (x15))]) E.1 E.2.1 dX1_compare_81 rfl hl (Nat.le_of_ble_eq_true rfl) (by first | rfl | decide | (simp [va_rf_cat, int_cat, long_cat]; done) | (simp [va_rf_cat, int_cat, long_cat]; decide)) (fun ls hl => ?_)
                refine lv_iload_n E.1 E.2.1 dX1_compare_82 rfl (lv_at hl 3 rfl) ?_
                refine hv_aload_n (r := some a0) E.1 E.2.1 dX1_compare_83 rfl (lv_at hl 1 rfl) ?_
                obtain ⟨f37, ⟨fs, hfs, hfk⟩, hw⟩ := hw
                refine hv_get (v := va_rf f37) E hK hI ciX1 7 (Nat.le_of_ble_eq_true rfl) q1427 (fun _ h => h) (Or.inl hfs) hfk dX1_compare_84 ?_
                obtain ⟨a38, ea38, hw⟩ := hw
                revert hl hw; subst ea38; intro hl hw
                obtain ⟨⟨fs41, hrv⟩, hw⟩ := hw
                have hq := hw
                clear hw
                refine hv_calli (u := 0) (B1 := 0) hI (vx_runV (As := []) (rest := [.int (x13)]) E (met_X4_weight l G (d + 62) hq) (cwV 0 E.2.2.2.2 (lw_V q1659 q1660 q1661 q127 q1662) rfl rfl rfl hd_X4_weight (rm_ok (by omega) (by decide))) (hv_preV hK hI hrv rfl) rfl rfl hl.1 rfl (lv_room (by first | rfl | decide | (simp [va_rf_cat, int_cat, long_cat]; done) | (simp [va_rf_cat, int_cat, long_cat]; decide))) dX1_compare_87 (hv_fit (by first | exact (Nat.le_refl 0) | omega))) (fun _ _ _ _ _ h => h.elim) (fun x40 y39 H locs hw hI => ?_)
                refine hv_aload_n (r := some a0) E.1 E.2.1 dX1_compare_90 rfl (lv_at hl 1 rfl) ?_
                obtain ⟨f42, ⟨fs, hfs, hfk⟩, hw⟩ := hw
                refine hv_get (v := va_rf f42) E hK hI ciX1 6 (Nat.le_of_ble_eq_true rfl) q1426 (fun _ h => h) (Or.inl hfs) hfk dX1_compare_91 ?_
                obtain ⟨a43, ea43, hw⟩ := hw
                revert hl hw; subst ea43; intro hl hw
                obtain ⟨⟨fs46, hrv⟩, hw⟩ := hw
                have hq := hw
                clear hw
                refine hv_calli (u := 0) (B1 := 0) hI (vx_runV (As := []) (rest := [.int (x40), .int (x13)]) E (met_X4_weight l G (d + 62) hq) (cwV 0 E.2.2.2.2 (lw_V q1659 q1660 q1661 q127 q1662) rfl rfl rfl hd_X4_weight (rm_ok (by omega) (by decide))) (hv_preV hK hI hrv rfl) rfl rfl hl.1 rfl (lv_room (by first | rfl | decide | (simp [va_rf_cat, int_cat, long_cat]; done) | (simp [va_rf_cat, int_cat, long_cat]; decide))) dX1_compare_94 (hv_fit (by first | exact (Nat.le_refl 0) | omega))) (fun _ _ _ _ _ h => h.elim) (fun x45 y44 H locs hw hI => ?_)
                refine lv_isub E.1 E.2.1 dX1_compare_97 ?_
                refine lv_iadd E.1 E.2.1 dX1_compare_98 ?_
                refine lv_topi (fun x47 ex47 => ?_)
                replace hw := hw x47 ex47
                refine lv_istore_n (lv' := [(3, .int (x47)), (2, .int (x36)), (0, va_rf (some a0)), (1, .int (i1)), (4, .int (x33)), (5, .int (x15))]) E.1 E.2.1 dX1_compare_99 rfl hl (Nat.le_of_ble_eq_true rfl) (by first | rfl | decide | (simp [va_rf_cat, int_cat, long_cat]; done) | (simp [va_rf_cat, int_cat, long_cat]; decide)) (fun ls hl => ?_)
                refine lv_iinc (k := 5) (v := x15 + nI 1) (lv' := [(5, .int (x15 + nI 1)), (3, .int (x47)), (2, .int (x36)), (0, va_rf (some a0)), (1, .int (i1)), (4, .int (x33))]) E.1 E.2.1 dX1_compare_100 hl rfl rfl (Nat.le_of_ble_eq_true rfl) (by first | rfl | decide | (simp [va_rf_cat, int_cat, long_cat]; done) | (simp [va_rf_cat, int_cat, long_cat]; decide)) (fun ls hl => ?_)
                refine lv_goto (tgt := 30) E.1 E.2.1 dX1_compare_103 (by decide) ?_
                obtain ⟨n48, hnn48, hin48⟩ := hw
                exact ih10 n48 hnn48 _ _ _ _ _ hin48 _ _ _ hI (lv_sub hl [3, 4, 2, 1, 5, 0] rfl)
              refine lv_istore (lv' := [(4, .int (x29)), (0, va_rf (some a0)), (1, .int (i1)), (2, .int (x12)), (3, .int (x13)), (5, .int (x15)), (6, .int (bi b28))]) E.1 E.2.1 dX1_compare_67 hl (Nat.le_of_ble_eq_true rfl) (by first | rfl | decide | (simp [va_rf_cat, int_cat, long_cat]; done) | (simp [va_rf_cat, int_cat, long_cat]; decide)) (fun ls hl => ?_)
              refine lv_iload_n E.1 E.2.1 dX1_compare_69 rfl (lv_at hl 3 rfl) ?_
              refine lv_iload E.1 E.2.1 dX1_compare_70 (lv_at hl 6 rfl) ?_
              refine lv_if_eq (tgt := 79) E.1 E.2.1 dX1_compare_72 (by decide) (fun c49 => ?_) (fun c49 => ?_)
              · replace hw := hw.1 (bi_z c49)
                refine lv_iconst (v := nI 0) E.1 E.2.1 dX1_compare_79 rfl ?_
                exact jh31 _ _ _ _ hw _ _ _ hI (lv_sub hl [1, 2, 4, 0, 5] rfl)
              · replace hw := hw.2 (bi_n c49)
                refine lv_iconst (v := nI 1) E.1 E.2.1 dX1_compare_75 rfl ?_
                refine lv_goto (tgt := 80) E.1 E.2.1 dX1_compare_76 (by decide) ?_
                exact jh31 _ _ _ _ hw _ _ _ hI (lv_sub hl [1, 2, 4, 0, 5] rfl)
            obtain ⟨J51, hj60, hw⟩ := hw
            have jh52 : ∀ (y53 : HS) (b54 : Bool), J51 y53 b54 → ∀ (H : Heap) (locs : List Loc) (ls : Array Slot), HI G y0 y53 s H locs → lv_has ls 7 [(0, va_rf (some a0)), (1, .int (i1)), (2, .int (x12)), (3, .int (x13)), (4, .int (x14)), (5, .int (x15)), (6, .int (bi b54))] → W p l e (rmB (d + 63) 0) s m args below meth c H locs 0 (20 * 0) (vx_MQ below (hQi G y0 post) (hX G y0 (fun _ _ _ => False)) args s 0 (20 * 0) (HA y0)) (F0 m 65 ls []) := by
              intro y53 b54 hw H locs ls hI hl
              replace hw := hj60 y53 b54 hw
              refine lv_iload E.1 E.2.1 dX1_compare_65 (lv_at hl 4 rfl) ?_
              exact jh26 _ _ _ hw _ _ _ hI (lv_sub hl [0, 1, 2, 3, 5, 6] rfl)
            refine hv_aload_n (r := some a0) E.1 E.2.1 dX1_compare_42 rfl (lv_at hl 0 rfl) ?_
            refine lv_iload E.1 E.2.1 dX1_compare_43 (lv_at hl 5 rfl) ?_
            obtain ⟨⟨fs57, hrv⟩, hw⟩ := hw
            have hq := hw
            clear hw
            refine hv_callz (u := 0) (B1 := 0) hI (vx_runV (As := [.int (x15)]) (rest := []) E (met_X1_isMoved l htr G (d) hq) (cwV 1 E.2.2.2.2 (lw_V q1754 q1756 qs55 q121 q1757) rfl rfl rfl hd_X1_isMoved (rm_ok (by omega) (by decide))) (hv_preV hK hI hrv rfl) rfl rfl hl.1 rfl (lv_room (by first | rfl | decide | (simp [va_rf_cat, int_cat, long_cat]; done) | (simp [va_rf_cat, int_cat, long_cat]; decide))) dX1_compare_45 (hv_fit (by first | exact (Nat.le_refl 0) | omega))) (fun _ _ _ _ _ h => h.elim) (fun b56 y55 H locs hw hI => ?_)
            refine lv_istore (lv' := [(6, .int (bi b56)), (0, va_rf (some a0)), (1, .int (i1)), (2, .int (x12)), (3, .int (x13)), (4, .int (x14)), (5, .int (x15))]) E.1 E.2.1 dX1_compare_48 hl (Nat.le_of_ble_eq_true rfl) (by first | rfl | decide | (simp [va_rf_cat, int_cat, long_cat]; done) | (simp [va_rf_cat, int_cat, long_cat]; decide)) (fun ls hl => ?_)
            refine lv_iload E.1 E.2.1 dX1_compare_50 (lv_at hl 0 rfl) ?_
            refine lv_if_eq (tgt := 65) E.1 E.2.1 dX1_compare_52 (by decide) (fun c58 => ?_) (fun c58 => ?_)
            · replace hw := hw.1 (bi_z c58)
              exact jh52 _ _ hw _ _ _ hI (lv_sub hl [1, 2, 3, 4, 5, 6, 0] rfl)
            · replace hw := hw.2 (bi_n c58)
              refine lv_iload E.1 E.2.1 dX1_compare_55 (lv_at hl 5 rfl) ?_
              refine lv_if_ge (tgt := 65) E.1 E.2.1 dX1_compare_57 (by decide) (fun c59 => ?_) (fun c59 => ?_)
              · replace hw := hw.1 (c59)
                exact jh52 _ _ hw _ _ _ hI (lv_sub hl [1, 2, 3, 4, 5, 6, 0] rfl)
              · replace hw := hw.2 (c59)
                refine lv_iload E.1 E.2.1 dX1_compare_60 (lv_at hl 6 rfl) ?_
                refine lv_goto (tgt := 67) E.1 E.2.1 dX1_compare_62 (by decide) ?_
                exact jh26 _ _ _ hw _ _ _ hI (lv_sub hl [1, 2, 3, 4, 6, 0] rfl)
      exact L11 n16 _ _ _ _ _ hi63 _ _ _ hI (lv_sub hl [4, 5, 3, 2, 1, 0] rfl)
    · replace hw := hw.2 (bi_z c6)
      refine lv_ldcw (v := (-100000)) E.1 E.2.1 E.2.2.2.1 (E.2.2.2.2 _ q1753) dX1_compare_16 ?_
      exact hv_ireti E hr hlocks hI (Nat.le_refl 0) hw dX1_compare_19
/-- CaseGrouper.keptWeight(I)I -/
def wp_X1_keptWeight (G : GP) (post : Int32 → HS → Prop) (y0 : HS) (a0 : Nat) (i1 : Int32) : Prop := ∃ f1, fR y0 a0 0 5 f1 ∧ (f1 = none → post ((-1)) y0) ∧ (∀ a3, f1 = some a3 → (∃ fs6, rd G y0 a0 (ob 0 fs6)) ∧ wp_X1_isStay G (fun b5 y4 => (b5 = true → ∃ f8, fR y4 a0 0 7 f8 ∧ ∃ f9, fR y4 a0 0 5 f9 ∧ ∃ f10, fR y4 a0 0 3 f10 ∧ ∃ a11, f10 = some a11 ∧ (∃ fs14, rd G y4 a11 (ob 18 fs14)) ∧ wp_J2_get G (fun r13 y12 => isOf G y12 r13 17 ∧ ∃ a15, f8 = some a15 ∧ (∃ fs17, rd G y12 a15 (ob 2 fs17)) ∧ wp_X4_looks G (fun y16 => ∃ f18, fR y16 a0 0 7 f18 ∧ ∃ a19, f18 = some a19 ∧ (∃ fs22, rd G y16 a19 (ob 2 fs22)) ∧ wp_X4_weight G (fun x21 y20 => post x21 y20) y16 a19) y12 a15 f9 r13) y4 a11 i1) ∧ (b5 = false → post ((-1)) y4)) y0 a0 i1)
theorem hs_X1_keptWeight : yX1_keptWeight.cls ≠ "java/lang/invoke/MethodHandle" ∧ yX1_keptWeight.cls ≠ "java/lang/invoke/VarHandle" ∧ (parseMethodDescriptor yX1_keptWeight.desc).map (fun d => d.parameters.length) = some 1 := by decide +kernel
theorem hd_X1_keptWeight : yX1_keptWeight.cls = RX1 ∧ yX1_keptWeight.cls ≠ "java/lang/invoke/MethodHandle" ∧ yX1_keptWeight.cls ≠ "java/lang/invoke/VarHandle" ∧ (parseMethodDescriptor yX1_keptWeight.desc).map (fun d => d.parameters.length) = some 1 := by decide +kernel
set_option maxHeartbeats 4000000 in
theorem met_X1_keptWeight (l : Launch) (htr : l.stackTraces = false) (G : GP) (d : Nat) {post : Int32 → HS → Prop} {y0 : HS} {a0 : Nat} {i1 : Int32} (hw : wp_X1_keptWeight G post y0 a0 i1) : vx_Met l yX1_keptWeight (ws_ yX1_keptWeight cX1_keptWeight 2 (some .int)) (rmB (d + 61) 0) (hPc G y0 [va_rf (some a0), .int (i1)]) (hQi G y0 post) (hX G y0 (fun _ _ _ => False)) 0 (20 * 0) (HA y0) := by
  unfold wp_X1_keptWeight at hw
  refine hv_met (own := RX1) (by decide) rfl (Nat.le_of_ble_eq_true rfl) ?_
  intro p e s m args below meth c ls E hr hlocks hnm hE hK hI hl
  replace hl : lv_has ls 2 [(0, va_rf (some a0)), (1, .int (i1))] := hl
  refine hv_aload_n (r := some a0) E.1 E.2.1 dX1_keptWeight_0 rfl (lv_at hl 0 rfl) ?_
  obtain ⟨f1, ⟨fs, hfs, hfk⟩, hw⟩ := hw
  refine hv_get (v := va_rf f1) E hK hI ciX1 5 (Nat.le_of_ble_eq_true rfl) q1425 (fun _ h => h) (Or.inl hfs) hfk dX1_keptWeight_1 ?_
  refine hv_ifnull (r := f1) (tgt := 15) E.1 E.2.1 dX1_keptWeight_4 (by decide) (fun c2 => ?_) (fun a3 c2 => ?_)
  · replace hw := hw.1 c2
    refine lv_iconst (v := (-1)) E.1 E.2.1 dX1_keptWeight_15 rfl ?_
    exact hv_ireti E hr hlocks hI (Nat.le_refl 0) hw dX1_keptWeight_16
  · replace hw := hw.2 a3 c2
    revert hl hw; subst c2; intro hl hw
    refine hv_aload_n (r := some a0) E.1 E.2.1 dX1_keptWeight_7 rfl (lv_at hl 0 rfl) ?_
    refine lv_iload_n E.1 E.2.1 dX1_keptWeight_8 rfl (lv_at hl 1 rfl) ?_
    obtain ⟨⟨fs6, hrv⟩, hw⟩ := hw
    have hq := hw
    clear hw
    refine hv_callz (u := 0) (B1 := 0) hI (vx_runV (As := [.int (i1)]) (rest := []) E (met_X1_isStay l htr G (d + 59) hq) (cwV 1 E.2.2.2.2 (lw_V q1491 q1493 qs44 q121 q1494) rfl rfl rfl hd_X1_isStay (rm_ok (by omega) (by decide))) (hv_preV hK hI hrv rfl) rfl rfl hl.1 rfl (lv_room (by first | rfl | decide | (simp [va_rf_cat, int_cat, long_cat]; done) | (simp [va_rf_cat, int_cat, long_cat]; decide))) dX1_keptWeight_9 (hv_fit (by first | exact (Nat.le_refl 0) | omega))) (fun _ _ _ _ _ h => h.elim) (fun b5 y4 H locs hw hI => ?_)
    refine lv_if_ne (tgt := 17) E.1 E.2.1 dX1_keptWeight_12 (by decide) (fun c7 => ?_) (fun c7 => ?_)
    · replace hw := hw.1 (bi_n c7)
      refine hv_aload_n (r := some a0) E.1 E.2.1 dX1_keptWeight_17 rfl (lv_at hl 0 rfl) ?_
      obtain ⟨f8, ⟨fs, hfs, hfk⟩, hw⟩ := hw
      refine hv_get (v := va_rf f8) E hK hI ciX1 7 (Nat.le_of_ble_eq_true rfl) q1427 (fun _ h => h) (Or.inl hfs) hfk dX1_keptWeight_18 ?_
      refine hv_aload_n (r := some a0) E.1 E.2.1 dX1_keptWeight_21 rfl (lv_at hl 0 rfl) ?_
      obtain ⟨f9, ⟨fs, hfs, hfk⟩, hw⟩ := hw
      refine hv_get (v := va_rf f9) E hK hI ciX1 5 (Nat.le_of_ble_eq_true rfl) q1425 (fun _ h => h) (Or.inl hfs) hfk dX1_keptWeight_22 ?_
      refine hv_aload_n (r := some a0) E.1 E.2.1 dX1_keptWeight_25 rfl (lv_at hl 0 rfl) ?_
      obtain ⟨f10, ⟨fs, hfs, hfk⟩, hw⟩ := hw
      refine hv_get (v := va_rf f10) E hK hI ciX1 3 (Nat.le_of_ble_eq_true rfl) q1423 (fun _ h => h) (Or.inl hfs) hfk dX1_keptWeight_26 ?_
      refine lv_iload_n E.1 E.2.1 dX1_keptWeight_29 rfl (lv_at hl 1 rfl) ?_
      obtain ⟨a11, ea11, hw⟩ := hw
      revert hl hw; subst ea11; intro hl hw
      obtain ⟨⟨fs14, hrv⟩, hw⟩ := hw
      have hq := hw
      clear hw
      refine hv_callq (u := 0) (B1 := 0) hI (vx_runV (As := [.int (i1)]) (rest := [va_rf f9, va_rf f8]) E (met_J2_get l G (d + 58) hq) (cwV 1 E.2.2.2.2 (lw_V q1495 q785 q786 q124 q787) rfl rfl rfl hd_J2_get (rm_ok (by omega) (by decide))) (hv_preV hK hI hrv rfl) rfl rfl hl.1 rfl (lv_room (by first | rfl | decide | (simp [va_rf_cat, int_cat, long_cat]; done) | (simp [va_rf_cat, int_cat, long_cat]; decide))) dX1_keptWeight_30 (hv_fit (by first | exact (Nat.le_refl 0) | omega))) (fun _ _ _ _ _ h => h.elim) (fun r13 y12 H locs hw hI => ?_)
      obtain ⟨hof, hw⟩ := hw
      refine hv_castC (cn := 17) E hK hI (by decide) q1454 hof dX1_keptWeight_33 ?_
      obtain ⟨a15, ea15, hw⟩ := hw
      revert hl hw; subst ea15; intro hl hw
      obtain ⟨⟨fs17, hrv⟩, hw⟩ := hw
      have hq := hw
      clear hw
      refine hv_callv (u := 0) (B1 := 0) hI (vx_runV (As := [va_rf f9, va_rf r13]) (rest := []) E (met_X4_looks l G (d) hq) (cwV 2 E.2.2.2.2 (lw_V q1615 q1616 q1617 q127 q1618) rfl rfl rfl hd_X4_looks (rm_ok (by omega) (by decide))) (hv_preV hK hI hrv rfl) rfl rfl hl.1 rfl (lv_room (by first | rfl | decide | (simp [va_rf_cat, int_cat, long_cat]; done) | (simp [va_rf_cat, int_cat, long_cat]; decide))) dX1_keptWeight_36 (hv_fit (by first | exact (Nat.le_refl 0) | omega))) (fun _ _ _ _ _ h => h.elim) (fun y16 H locs hw hI => ?_)
      refine hv_aload_n (r := some a0) E.1 E.2.1 dX1_keptWeight_39 rfl (lv_at hl 0 rfl) ?_
      obtain ⟨f18, ⟨fs, hfs, hfk⟩, hw⟩ := hw
      refine hv_get (v := va_rf f18) E hK hI ciX1 7 (Nat.le_of_ble_eq_true rfl) q1427 (fun _ h => h) (Or.inl hfs) hfk dX1_keptWeight_40 ?_
      obtain ⟨a19, ea19, hw⟩ := hw
      revert hl hw; subst ea19; intro hl hw
      obtain ⟨⟨fs22, hrv⟩, hw⟩ := hw
      have hq := hw
      clear hw
      refine hv_calli (u := 0) (B1 := 0) hI (vx_runV (As := []) (rest := []) E (met_X4_weight l G (d + 60) hq) (cwV 0 E.2.2.2.2 (lw_V q1659 q1660 q1661 q127 q1662) rfl rfl rfl hd_X4_weight (rm_ok (by omega) (by decide))) (hv_preV hK hI hrv rfl) rfl rfl hl.1 rfl (lv_room (by first | rfl | decide | (simp [va_rf_cat, int_cat, long_cat]; done) | (simp [va_rf_cat, int_cat, long_cat]; decide))) dX1_keptWeight_43 (hv_fit (by first | exact (Nat.le_refl 0) | omega))) (fun _ _ _ _ _ h => h.elim) (fun x21 y20 H locs hw hI => ?_)
      exact hv_ireti E hr hlocks hI (Nat.le_refl 0) hw dX1_keptWeight_46
    · replace hw := hw.2 (bi_z c7)
      refine lv_iconst (v := (-1)) E.1 E.2.1 dX1_keptWeight_15 rfl ?_
      exact hv_ireti E hr hlocks hI (Nat.le_refl 0) hw dX1_keptWeight_16
/-- CaseGrouper.swap()Z -/
def wp_X1_swap (G : GP) (post : Bool → HS → Prop) (y0 : HS) (a0 : Nat) : Prop := ∃ f1, fR y0 a0 0 5 f1 ∧ (f1 = none → post false y0) ∧ (∀ a3, f1 = some a3 → ∃ f4, fR y0 a0 0 4 f4 ∧ ∃ f5, fR y0 a0 0 5 f5 ∧ ∃ fs7, y0.1 a0 = some (ob 0 fs7) ∧ 4 < fs7.length ∧ ∀ y6, y6 = hput y0 a0 (ob 0 (fs7.set 4 (va_rf f5))) → ∃ fs9, y6.1 a0 = some (ob 0 fs9) ∧ 5 < fs9.length ∧ ∀ y8, y8 = hput y6 a0 (ob 0 (fs9.set 5 (va_rf f4))) → post true y8)
theorem hs_X1_swap : yX1_swap.cls ≠ "java/lang/invoke/MethodHandle" ∧ yX1_swap.cls ≠ "java/lang/invoke/VarHandle" ∧ (parseMethodDescriptor yX1_swap.desc).map (fun d => d.parameters.length) = some 0 := by decide +kernel
theorem hd_X1_swap : yX1_swap.cls = RX1 ∧ yX1_swap.cls ≠ "java/lang/invoke/MethodHandle" ∧ yX1_swap.cls ≠ "java/lang/invoke/VarHandle" ∧ (parseMethodDescriptor yX1_swap.desc).map (fun d => d.parameters.length) = some 0 := by decide +kernel
set_option maxHeartbeats 4000000 in
theorem met_X1_swap (l : Launch) (htr : l.stackTraces = false) (G : GP) (d : Nat) {post : Bool → HS → Prop} {y0 : HS} {a0 : Nat} (hw : wp_X1_swap G post y0 a0) : vx_Met l yX1_swap (ws_ yX1_swap cX1_swap 2 (some .boolean)) (rmB (d + 0) 0) (hPc G y0 [va_rf (some a0)]) (hQz G y0 post) (hX G y0 (fun _ _ _ => False)) 0 (20 * 0) (HA y0) := by
  unfold wp_X1_swap at hw
  refine hv_met (own := RX1) (by decide) rfl (Nat.le_of_ble_eq_true rfl) ?_
  intro p e s m args below meth c ls E hr hlocks hnm hE hK hI hl
  replace hl : lv_has ls 2 [(0, va_rf (some a0))] := hl
  refine hv_aload_n (r := some a0) E.1 E.2.1 dX1_swap_0 rfl (lv_at hl 0 rfl) ?_
  obtain ⟨f1, ⟨fs, hfs, hfk⟩, hw⟩ := hw
  refine hv_get (v := va_rf f1) E hK hI ciX1 5 (Nat.le_of_ble_eq_true rfl) q1425 (fun _ h => h) (Or.inl hfs) hfk dX1_swap_1 ?_
  refine hv_ifnonnull (r := f1) (tgt := 9) E.1 E.2.1 dX1_swap_4 (by decide) (fun a3 c2 => ?_) (fun c2 => ?_)
  · replace hw := hw.2 a3 c2
    revert hl hw; subst c2; intro hl hw
    refine hv_aload_n (r := some a0) E.1 E.2.1 dX1_swap_9 rfl (lv_at hl 0 rfl) ?_
    obtain ⟨f4, ⟨fs, hfs, hfk⟩, hw⟩ := hw
    refine hv_get (v := va_rf f4) E hK hI ciX1 4 (Nat.le_of_ble_eq_true rfl) q1424 (fun _ h => h) (Or.inl hfs) hfk dX1_swap_10 ?_
    refine hv_astore_n (r := f4) (lv' := [(1, va_rf f4), (0, va_rf (some a0))]) E.1 E.2.1 dX1_swap_13 rfl hl (Nat.le_of_ble_eq_true rfl) (by first | rfl | decide | (simp [va_rf_cat, int_cat, long_cat]; done) | (simp [va_rf_cat, int_cat, long_cat]; decide)) (fun ls hl => ?_)
    refine hv_aload_n (r := some a0) E.1 E.2.1 dX1_swap_14 rfl (lv_at hl 1 rfl) ?_
    refine hv_aload_n (r := some a0) E.1 E.2.1 dX1_swap_15 rfl (lv_at hl 1 rfl) ?_
    obtain ⟨f5, ⟨fs, hfs, hfk⟩, hw⟩ := hw
    refine hv_get (v := va_rf f5) E hK hI ciX1 5 (Nat.le_of_ble_eq_true rfl) q1425 (fun _ h => h) (Or.inl hfs) hfk dX1_swap_16 ?_
    obtain ⟨fs7, hfs, hln, hw⟩ := hw
    refine hv_put (v := va_rf f5) E hK hI ciX1 4 (Nat.le_of_ble_eq_true rfl) q1424 (fun _ h => h) rfl (rf_nar _ _ rfl) (rf_fit _ _ rfl) hfs hln dX1_swap_19 (fun H locs hI => ?_)
    obtain ⟨y6, ey6⟩ : ∃ w, w = hput y0 a0 (ob 0 (fs7.set 4 (va_rf f5))) := ⟨_, rfl⟩
    rw [← ey6] at hI
    replace hw := hw y6 ey6
    refine hv_aload_n (r := some a0) E.1 E.2.1 dX1_swap_22 rfl (lv_at hl 1 rfl) ?_
    refine hv_aload_n (r := f4) E.1 E.2.1 dX1_swap_23 rfl (lv_at hl 0 rfl) ?_
    obtain ⟨fs9, hfs, hln, hw⟩ := hw
    refine hv_put (v := va_rf f4) E hK hI ciX1 5 (Nat.le_of_ble_eq_true rfl) q1425 (fun _ h => h) rfl (rf_nar _ _ rfl) (rf_fit _ _ rfl) hfs hln dX1_swap_24 (fun H locs hI => ?_)
    obtain ⟨y8, ey8⟩ : ∃ w, w = hput y6 a0 (ob 0 (fs9.set 5 (va_rf f4))) := ⟨_, rfl⟩
    rw [← ey8] at hI
    replace hw := hw y8 ey8
    refine lv_iconst (v := nI 1) E.1 E.2.1 dX1_swap_27 rfl ?_
    exact hv_iretz (b := true) E hr hlocks hI (Nat.le_refl 0) rfl hw dX1_swap_28
  · replace hw := hw.1 c2
    refine lv_iconst (v := nI 0) E.1 E.2.1 dX1_swap_7 rfl ?_
    exact hv_iretz (b := false) E hr hlocks hI (Nat.le_refl 0) rfl hw dX1_swap_8
/-- CaseGrouper.dead()I -/
def wp_X1_dead (G : GP) (post : Int32 → HS → Prop) (y0 : HS) (a0 : Nat) : Prop := ∃ I1 : Nat → HS → Int32 → Int32 → Prop, (∃ n8, I1 n8 y0 (nI 0) (nI 0)) ∧ ∀ (n2 : Nat) (y3 : HS) (x6 : Int32) (x7 : Int32), I1 n2 y3 x6 x7 → ∃ f9, fR y3 a0 0 4 f9 ∧ ∃ a10, f9 = some a10 ∧ ∃ f11, fR y3 a10 1 3 f11 ∧ ∃ a12, f11 = some a12 ∧ (∃ fs15, rd G y3 a12 (ob 18 fs15)) ∧ wp_J2_size G (fun x14 y13 => (x14 ≤ x7 → post x6 y13) ∧ (¬ x14 ≤ x7 → ∃ f17, fR y13 a0 0 4 f17 ∧ ∃ a18, f17 = some a18 ∧ ∃ f19, fR y13 a18 1 3 f19 ∧ ∃ a20, f19 = some a20 ∧ (∃ fs23, rd G y13 a20 (ob 18 fs23)) ∧ wp_J2_get G (fun r22 y21 => isOf G y21 r22 11 ∧ ∃ a24, r22 = some a24 ∧ ∃ f25, fI y21 a24 11 1 f25 ∧ (f25 = 0 → ∀ x27, x27 = x6 + (nI 1) → ∃ n28, n28 < n2 ∧ I1 n28 y21 x27 (x7 + nI 1)) ∧ (¬ f25 = 0 → ∀ x29, x29 = x6 + (nI 0) → ∃ n30, n30 < n2 ∧ I1 n30 y21 x29 (x7 + nI 1))) y13 a20 x7)) y3 a12
theorem hs_X1_dead : yX1_dead.cls ≠ "java/lang/invoke/MethodHandle" ∧ yX1_dead.cls ≠ "java/lang/invoke/VarHandle" ∧ (parseMethodDescriptor yX1_dead.desc).map (fun d => d.parameters.length) = some 0 := by decide +kernel
theorem hd_X1_dead : yX1_dead.cls = RX1 ∧ yX1_dead.cls ≠ "java/lang/invoke/MethodHandle" ∧ yX1_dead.cls ≠ "java/lang/invoke/VarHandle" ∧ (parseMethodDescriptor yX1_dead.desc).map (fun d => d.parameters.length) = some 0 := by decide +kernel
set_option maxHeartbeats 4000000 in
theorem met_X1_dead (l : Launch) (htr : l.stackTraces = false) (G : GP) (d : Nat) {post : Int32 → HS → Prop} {y0 : HS} {a0 : Nat} (hw : wp_X1_dead G post y0 a0) : vx_Met l yX1_dead (ws_ yX1_dead cX1_dead 3 (some .int)) (rmB (d + 3) 0) (hPc G y0 [va_rf (some a0)]) (hQi G y0 post) (hX G y0 (fun _ _ _ => False)) 0 (20 * 0) (HA y0) := by
  unfold wp_X1_dead at hw
  refine hv_met (own := RX1) (by decide) rfl (Nat.le_of_ble_eq_true rfl) ?_
  intro p e s m args below meth c ls E hr hlocks hnm hE hK hI hl
  replace hl : lv_has ls 3 [(0, va_rf (some a0))] := hl
  refine lv_iconst (v := nI 0) E.1 E.2.1 dX1_dead_0 rfl ?_
  refine lv_istore_n (lv' := [(1, .int (nI 0)), (0, va_rf (some a0))]) E.1 E.2.1 dX1_dead_1 rfl hl (Nat.le_of_ble_eq_true rfl) (by first | rfl | decide | (simp [va_rf_cat, int_cat, long_cat]; done) | (simp [va_rf_cat, int_cat, long_cat]; decide)) (fun ls hl => ?_)
  refine lv_iconst (v := nI 0) E.1 E.2.1 dX1_dead_2 rfl ?_
  refine lv_istore_n (lv' := [(2, .int (nI 0)), (1, .int (nI 0)), (0, va_rf (some a0))]) E.1 E.2.1 dX1_dead_3 rfl hl (Nat.le_of_ble_eq_true rfl) (by first | rfl | decide | (simp [va_rf_cat, int_cat, long_cat]; done) | (simp [va_rf_cat, int_cat, long_cat]; decide)) (fun ls hl => ?_)
  obtain ⟨I1, ⟨n8, hi32⟩, hb31⟩ := hw
  have L5 : ∀ (n2 : Nat) (y3 : HS) (x6 : Int32) (x7 : Int32), I1 n2 y3 x6 x7 → ∀ (H : Heap) (locs : List Loc) (ls : Array Slot), HI G y0 y3 s H locs → lv_has ls 3 [(0, va_rf (some a0)), (1, .int (x6)), (2, .int (x7))] → W p l e (rmB (d + 3) 0) s m args below meth c H locs 0 (20 * 0) (vx_MQ below (hQi G y0 post) (hX G y0 (fun _ _ _ => False)) args s 0 (20 * 0) (HA y0)) (F0 m 4 ls []) := by
    intro n2
    induction n2 using Nat.strongRecOn with
    | _ n2 ih4 =>
      intro y3 x6 x7 hw H locs ls hI hl
      replace hw := hb31 n2 y3 x6 x7 hw
      refine lv_iload_n E.1 E.2.1 dX1_dead_4 rfl (lv_at hl 2 rfl) ?_
      refine hv_aload_n (r := some a0) E.1 E.2.1 dX1_dead_5 rfl (lv_at hl 0 rfl) ?_
      obtain ⟨f9, ⟨fs, hfs, hfk⟩, hw⟩ := hw
      refine hv_get (v := va_rf f9) E hK hI ciX1 4 (Nat.le_of_ble_eq_true rfl) q1424 (fun _ h => h) (Or.inl hfs) hfk dX1_dead_6 ?_
      obtain ⟨a10, ea10, hw⟩ := hw
      revert hl hw; subst ea10; intro hl hw
      obtain ⟨f11, ⟨fs, hfs, hfk⟩, hw⟩ := hw
      refine hv_getN (v := va_rf f11) E hK hI ciX2 3 (Nat.le_of_ble_eq_true rfl) q243 (fun _ h => h) (Or.inl hfs) hfk dX1_dead_9 ?_
      obtain ⟨a12, ea12, hw⟩ := hw
      revert hl hw; subst ea12; intro hl hw
      obtain ⟨⟨fs15, hrv⟩, hw⟩ := hw
      have hq := hw
      clear hw
      refine hv_calli (u := 0) (B1 := 0) hI (vx_runV (As := []) (rest := [.int (x7)]) E (met_J2_size l G (d + 2) hq) (cwV 0 E.2.2.2.2 (lw_V q1453 q752 q753 q124 q754) rfl rfl rfl hd_J2_size (rm_ok (by omega) (by decide))) (hv_preV hK hI hrv rfl) rfl rfl hl.1 rfl (lv_room (by first | rfl | decide | (simp [va_rf_cat, int_cat, long_cat]; done) | (simp [va_rf_cat, int_cat, long_cat]; decide))) dX1_dead_12 (hv_fit (by first | exact (Nat.le_refl 0) | omega))) (fun _ _ _ _ _ h => h.elim) (fun x14 y13 H locs hw hI => ?_)
      refine lv_icmp_ge (tgt := 52) E.1 E.2.1 dX1_dead_15 (by decide) (fun c16 => ?_) (fun c16 => ?_)
      · replace hw := hw.1 (c16)
        refine lv_iload_n E.1 E.2.1 dX1_dead_52 rfl (lv_at hl 1 rfl) ?_
        exact hv_ireti E hr hlocks hI (Nat.le_refl 0) hw dX1_dead_53
      · replace hw := hw.2 (c16)
        refine lv_iload_n E.1 E.2.1 dX1_dead_18 rfl (lv_at hl 1 rfl) ?_
        refine hv_aload_n (r := some a0) E.1 E.2.1 dX1_dead_19 rfl (lv_at hl 0 rfl) ?_
        obtain ⟨f17, ⟨fs, hfs, hfk⟩, hw⟩ := hw
        refine hv_get (v := va_rf f17) E hK hI ciX1 4 (Nat.le_of_ble_eq_true rfl) q1424 (fun _ h => h) (Or.inl hfs) hfk dX1_dead_20 ?_
        obtain ⟨a18, ea18, hw⟩ := hw
        revert hl hw; subst ea18; intro hl hw
        obtain ⟨f19, ⟨fs, hfs, hfk⟩, hw⟩ := hw
        refine hv_getN (v := va_rf f19) E hK hI ciX2 3 (Nat.le_of_ble_eq_true rfl) q243 (fun _ h => h) (Or.inl hfs) hfk dX1_dead_23 ?_
        refine lv_iload_n E.1 E.2.1 dX1_dead_26 rfl (lv_at hl 2 rfl) ?_
        obtain ⟨a20, ea20, hw⟩ := hw
        revert hl hw; subst ea20; intro hl hw
        obtain ⟨⟨fs23, hrv⟩, hw⟩ := hw
        have hq := hw
        clear hw
        refine hv_callq (u := 0) (B1 := 0) hI (vx_runV (As := [.int (x7)]) (rest := [.int (x6)]) E (met_J2_get l G (d) hq) (cwV 1 E.2.2.2.2 (lw_V q1495 q785 q786 q124 q787) rfl rfl rfl hd_J2_get (rm_ok (by omega) (by decide))) (hv_preV hK hI hrv rfl) rfl rfl hl.1 rfl (lv_room (by first | rfl | decide | (simp [va_rf_cat, int_cat, long_cat]; done) | (simp [va_rf_cat, int_cat, long_cat]; decide))) dX1_dead_27 (hv_fit (by first | exact (Nat.le_refl 0) | omega))) (fun _ _ _ _ _ h => h.elim) (fun r22 y21 H locs hw hI => ?_)
        obtain ⟨hof, hw⟩ := hw
        refine hv_castC (cn := 11) E hK hI (by decide) q1708 hof dX1_dead_30 ?_
        obtain ⟨a24, ea24, hw⟩ := hw
        revert hl hw; subst ea24; intro hl hw
        obtain ⟨f25, ⟨fs, hfs, hfk⟩, hw⟩ := hw
        refine hv_getN (v := .int f25) E hK hI ciX13 1 (Nat.le_of_ble_eq_true rfl) q1093 (fun _ h => h) (Or.inl hfs) hfk dX1_dead_33 ?_
        refine lv_if_eq (tgt := 43) E.1 E.2.1 dX1_dead_36 (by decide) (fun c26 => ?_) (fun c26 => ?_)
        · replace hw := hw.1 (c26)
          refine lv_iconst (v := nI 1) E.1 E.2.1 dX1_dead_43 rfl ?_
          refine lv_iadd E.1 E.2.1 dX1_dead_44 ?_
          refine lv_topi (fun x27 ex27 => ?_)
          replace hw := hw x27 ex27
          refine lv_istore_n (lv' := [(1, .int (x27)), (0, va_rf (some a0)), (2, .int (x7))]) E.1 E.2.1 dX1_dead_45 rfl hl (Nat.le_of_ble_eq_true rfl) (by first | rfl | decide | (simp [va_rf_cat, int_cat, long_cat]; done) | (simp [va_rf_cat, int_cat, long_cat]; decide)) (fun ls hl => ?_)
          refine lv_iinc (k := 2) (v := x7 + nI 1) (lv' := [(2, .int (x7 + nI 1)), (1, .int (x27)), (0, va_rf (some a0))]) E.1 E.2.1 dX1_dead_46 hl rfl rfl (Nat.le_of_ble_eq_true rfl) (by first | rfl | decide | (simp [va_rf_cat, int_cat, long_cat]; done) | (simp [va_rf_cat, int_cat, long_cat]; decide)) (fun ls hl => ?_)
          refine lv_goto (tgt := 4) E.1 E.2.1 dX1_dead_49 (by decide) ?_
          obtain ⟨n28, hnn28, hin28⟩ := hw
          exact ih4 n28 hnn28 _ _ _ hin28 _ _ _ hI (lv_sub hl [2, 1, 0] rfl)
        · replace hw := hw.2 (c26)
          refine lv_iconst (v := nI 0) E.1 E.2.1 dX1_dead_39 rfl ?_
          refine lv_goto (tgt := 44) E.1 E.2.1 dX1_dead_40 (by decide) ?_
          refine lv_iadd E.1 E.2.1 dX1_dead_44 ?_
          refine lv_topi (fun x29 ex29 => ?_)
          replace hw := hw x29 ex29
          refine lv_istore_n (lv' := [(1, .int (x29)), (0, va_rf (some a0)), (2, .int (x7))]) E.1 E.2.1 dX1_dead_45 rfl hl (Nat.le_of_ble_eq_true rfl) (by first | rfl | decide | (simp [va_rf_cat, int_cat, long_cat]; done) | (simp [va_rf_cat, int_cat, long_cat]; decide)) (fun ls hl => ?_)
          refine lv_iinc (k := 2) (v := x7 + nI 1) (lv' := [(2, .int (x7 + nI 1)), (1, .int (x29)), (0, va_rf (some a0))]) E.1 E.2.1 dX1_dead_46 hl rfl rfl (Nat.le_of_ble_eq_true rfl) (by first | rfl | decide | (simp [va_rf_cat, int_cat, long_cat]; done) | (simp [va_rf_cat, int_cat, long_cat]; decide)) (fun ls hl => ?_)
          refine lv_goto (tgt := 4) E.1 E.2.1 dX1_dead_49 (by decide) ?_
          obtain ⟨n30, hnn30, hin30⟩ := hw
          exact ih4 n30 hnn30 _ _ _ hin30 _ _ _ hI (lv_sub hl [2, 1, 0] rfl)
  exact L5 n8 _ _ _ hi32 _ _ _ hI (lv_sub hl [2, 1, 0] rfl)
/-- CaseGrouper.weights()I -/
def wp_X1_weights (G : GP) (post : Int32 → HS → Prop) (y0 : HS) (a0 : Nat) : Prop := ∃ I1 : Nat → HS → Int32 → Int32 → Prop, (∃ n8, I1 n8 y0 (nI 0) (nI 0)) ∧ ∀ (n2 : Nat) (y3 : HS) (x6 : Int32) (x7 : Int32), I1 n2 y3 x6 x7 → ∃ f9, fR y3 a0 0 3 f9 ∧ ∃ a10, f9 = some a10 ∧ (∃ fs13, rd G y3 a10 (ob 18 fs13)) ∧ wp_J2_size G (fun x12 y11 => (x12 ≤ x7 → post x6 y11) ∧ (¬ x12 ≤ x7 → (∃ fs16, rd G y11 a0 (ob 0 fs16)) ∧ wp_X1_looks G (fun y15 => ∃ f17, fR y15 a0 0 6 f17 ∧ ∃ a18, f17 = some a18 ∧ (∃ fs21, rd G y15 a18 (ob 2 fs21)) ∧ wp_X4_weight G (fun x20 y19 => ∀ x22, x22 = x6 + x20 → ∃ n23, n23 < n2 ∧ I1 n23 y19 x22 (x7 + nI 1)) y15 a18) y11 a0 x7)) y3 a10
theorem hs_X1_weights : yX1_weights.cls ≠ "java/lang/invoke/MethodHandle" ∧ yX1_weights.cls ≠ "java/lang/invoke/VarHandle" ∧ (parseMethodDescriptor yX1_weights.desc).map (fun d => d.parameters.length) = some 0 := by decide +kernel
theorem hd_X1_weights : yX1_weights.cls = RX1 ∧ yX1_weights.cls ≠ "java/lang/invoke/MethodHandle" ∧ yX1_weights.cls ≠ "java/lang/invoke/VarHandle" ∧ (parseMethodDescriptor yX1_weights.desc).map (fun d => d.parameters.length) = some 0 := by decide +kernel
set_option maxHeartbeats 4000000 in
theorem met_X1_weights (l : Launch) (htr : l.stackTraces = false) (G : GP) (d : Nat) {post : Int32 → HS → Prop} {y0 : HS} {a0 : Nat} (hw : wp_X1_weights G post y0 a0) : vx_Met l yX1_weights (ws_ yX1_weights cX1_weights 3 (some .int)) (rmB (d + 62) 0) (hPc G y0 [va_rf (some a0)]) (hQi G y0 post) (hX G y0 (fun _ _ _ => False)) 0 (20 * 0) (HA y0) := by
  unfold wp_X1_weights at hw
  refine hv_met (own := RX1) (by decide) rfl (Nat.le_of_ble_eq_true rfl) ?_
  intro p e s m args below meth c ls E hr hlocks hnm hE hK hI hl
  replace hl : lv_has ls 3 [(0, va_rf (some a0))] := hl
  refine lv_iconst (v := nI 0) E.1 E.2.1 dX1_weights_0 rfl ?_
  refine lv_istore_n (lv' := [(1, .int (nI 0)), (0, va_rf (some a0))]) E.1 E.2.1 dX1_weights_1 rfl hl (Nat.le_of_ble_eq_true rfl) (by first | rfl | decide | (simp [va_rf_cat, int_cat, long_cat]; done) | (simp [va_rf_cat, int_cat, long_cat]; decide)) (fun ls hl => ?_)
  refine lv_iconst (v := nI 0) E.1 E.2.1 dX1_weights_2 rfl ?_
  refine lv_istore_n (lv' := [(2, .int (nI 0)), (1, .int (nI 0)), (0, va_rf (some a0))]) E.1 E.2.1 dX1_weights_3 rfl hl (Nat.le_of_ble_eq_true rfl) (by first | rfl | decide | (simp [va_rf_cat, int_cat, long_cat]; done) | (simp [va_rf_cat, int_cat, long_cat]; decide)) (fun ls hl => ?_)
  obtain ⟨I1, ⟨n8, hi25⟩, hb24⟩ := hw
  have L5 : ∀ (n2 : Nat) (y3 : HS) (x6 : Int32) (x7 : Int32), I1 n2 y3 x6 x7 → ∀ (H : Heap) (locs : List Loc) (ls : Array Slot), HI G y0 y3 s H locs → lv_has ls 3 [(0, va_rf (some a0)), (1, .int (x6)), (2, .int (x7))] → W p l e (rmB (d + 62) 0) s m args below meth c H locs 0 (20 * 0) (vx_MQ below (hQi G y0 post) (hX G y0 (fun _ _ _ => False)) args s 0 (20 * 0) (HA y0)) (F0 m 4 ls []) := by
    intro n2
    induction n2 using Nat.strongRecOn with
    | _ n2 ih4 =>
      intro y3 x6 x7 hw H locs ls hI hl
      replace hw := hb24 n2 y3 x6 x7 hw
      refine lv_iload_n E.1 E.2.1 dX1_weights_4 rfl (lv_at hl 2 rfl) ?_
      refine hv_aload_n (r := some a0) E.1 E.2.1 dX1_weights_5 rfl (lv_at hl 0 rfl) ?_
      obtain ⟨f9, ⟨fs, hfs, hfk⟩, hw⟩ := hw
      refine hv_get (v := va_rf f9) E hK hI ciX1 3 (Nat.le_of_ble_eq_true rfl) q1423 (fun _ h => h) (Or.inl hfs) hfk dX1_weights_6 ?_
      obtain ⟨a10, ea10, hw⟩ := hw
      revert hl hw; subst ea10; intro hl hw
      obtain ⟨⟨fs13, hrv⟩, hw⟩ := hw
      have hq := hw
      clear hw
      refine hv_calli (u := 0) (B1 := 0) hI (vx_runV (As := []) (rest := [.int (x7)]) E (met_J2_size l G (d + 61) hq) (cwV 0 E.2.2.2.2 (lw_V q1453 q752 q753 q124 q754) rfl rfl rfl hd_J2_size (rm_ok (by omega) (by decide))) (hv_preV hK hI hrv rfl) rfl rfl hl.1 rfl (lv_room (by first | rfl | decide | (simp [va_rf_cat, int_cat, long_cat]; done) | (simp [va_rf_cat, int_cat, long_cat]; decide))) dX1_weights_9 (hv_fit (by first | exact (Nat.le_refl 0) | omega))) (fun _ _ _ _ _ h => h.elim) (fun x12 y11 H locs hw hI => ?_)
      refine lv_icmp_ge (tgt := 36) E.1 E.2.1 dX1_weights_12 (by decide) (fun c14 => ?_) (fun c14 => ?_)
      · replace hw := hw.1 (c14)
        refine lv_iload_n E.1 E.2.1 dX1_weights_36 rfl (lv_at hl 1 rfl) ?_
        exact hv_ireti E hr hlocks hI (Nat.le_refl 0) hw dX1_weights_37
      · replace hw := hw.2 (c14)
        refine hv_aload_n (r := some a0) E.1 E.2.1 dX1_weights_15 rfl (lv_at hl 0 rfl) ?_
        refine lv_iload_n E.1 E.2.1 dX1_weights_16 rfl (lv_at hl 2 rfl) ?_
        obtain ⟨⟨fs16, hrv⟩, hw⟩ := hw
        have hq := hw
        clear hw
        refine hv_callv (u := 0) (B1 := 0) hI (vx_runV (As := [.int (x7)]) (rest := []) E (met_X1_looks l htr G (d) hq) (cwV 1 E.2.2.2.2 (lw_V q1611 q1613 qs47 q121 q1614) rfl rfl rfl hd_X1_looks (rm_ok (by omega) (by decide))) (hv_preV hK hI hrv rfl) rfl rfl hl.1 rfl (lv_room (by first | rfl | decide | (simp [va_rf_cat, int_cat, long_cat]; done) | (simp [va_rf_cat, int_cat, long_cat]; decide))) dX1_weights_17 (hv_fit (by first | exact (Nat.le_refl 0) | omega))) (fun _ _ _ _ _ h => h.elim) (fun y15 H locs hw hI => ?_)
        refine lv_iload_n E.1 E.2.1 dX1_weights_20 rfl (lv_at hl 1 rfl) ?_
        refine hv_aload_n (r := some a0) E.1 E.2.1 dX1_weights_21 rfl (lv_at hl 0 rfl) ?_
        obtain ⟨f17, ⟨fs, hfs, hfk⟩, hw⟩ := hw
        refine hv_get (v := va_rf f17) E hK hI ciX1 6 (Nat.le_of_ble_eq_true rfl) q1426 (fun _ h => h) (Or.inl hfs) hfk dX1_weights_22 ?_
        obtain ⟨a18, ea18, hw⟩ := hw
        revert hl hw; subst ea18; intro hl hw
        obtain ⟨⟨fs21, hrv⟩, hw⟩ := hw
        have hq := hw
        clear hw
        refine hv_calli (u := 0) (B1 := 0) hI (vx_runV (As := []) (rest := [.int (x6)]) E (met_X4_weight l G (d + 61) hq) (cwV 0 E.2.2.2.2 (lw_V q1659 q1660 q1661 q127 q1662) rfl rfl rfl hd_X4_weight (rm_ok (by omega) (by decide))) (hv_preV hK hI hrv rfl) rfl rfl hl.1 rfl (lv_room (by first | rfl | decide | (simp [va_rf_cat, int_cat, long_cat]; done) | (simp [va_rf_cat, int_cat, long_cat]; decide))) dX1_weights_25 (hv_fit (by first | exact (Nat.le_refl 0) | omega))) (fun _ _ _ _ _ h => h.elim) (fun x20 y19 H locs hw hI => ?_)
        refine lv_iadd E.1 E.2.1 dX1_weights_28 ?_
        refine lv_topi (fun x22 ex22 => ?_)
        replace hw := hw x22 ex22
        refine lv_istore_n (lv' := [(1, .int (x22)), (0, va_rf (some a0)), (2, .int (x7))]) E.1 E.2.1 dX1_weights_29 rfl hl (Nat.le_of_ble_eq_true rfl) (by first | rfl | decide | (simp [va_rf_cat, int_cat, long_cat]; done) | (simp [va_rf_cat, int_cat, long_cat]; decide)) (fun ls hl => ?_)
        refine lv_iinc (k := 2) (v := x7 + nI 1) (lv' := [(2, .int (x7 + nI 1)), (1, .int (x22)), (0, va_rf (some a0))]) E.1 E.2.1 dX1_weights_30 hl rfl rfl (Nat.le_of_ble_eq_true rfl) (by first | rfl | decide | (simp [va_rf_cat, int_cat, long_cat]; done) | (simp [va_rf_cat, int_cat, long_cat]; decide)) (fun ls hl => ?_)
        refine lv_goto (tgt := 4) E.1 E.2.1 dX1_weights_33 (by decide) ?_
        obtain ⟨n23, hnn23, hin23⟩ := hw
        exact ih4 n23 hnn23 _ _ _ hin23 _ _ _ hI (lv_sub hl [2, 1, 0] rfl)
  exact L5 n8 _ _ _ hi25 _ _ _ hI (lv_sub hl [2, 1, 0] rfl)
/-- CaseGrouper.count(I)I -/
def wp_X1_count (G : GP) (post : Int32 → HS → Prop) (y0 : HS) (a0 : Nat) (i1 : Int32) : Prop := (i1 = nI 0 → ∃ f2, fR y0 a0 0 4 f2 ∧ ∃ a3, f2 = some a3 ∧ ∃ f4, fR y0 a3 1 0 f4 ∧ ∃ a5, f4 = some a5 ∧ (∃ fs8, rd G y0 a5 (ob 18 fs8)) ∧ wp_J2_size G (fun x7 y6 => post x7 y6) y0 a5) ∧ (¬ i1 = nI 0 → (i1 = nI 1 → ∃ f10, fR y0 a0 0 4 f10 ∧ ∃ a11, f10 = some a11 ∧ ∃ f12, fR y0 a11 1 1 f12 ∧ ∃ a13, f12 = some a13 ∧ (∃ fs16, rd G y0 a13 (ob 18 fs16)) ∧ wp_J2_size G (fun x15 y14 => post x15 y14) y0 a13) ∧ (¬ i1 = nI 1 → (i1 = nI 2 → ∃ f18, fR y0 a0 0 4 f18 ∧ ∃ a19, f18 = some a19 ∧ ∃ f20, fR y0 a19 1 2 f20 ∧ ∃ a21, f20 = some a21 ∧ (∃ fs24, rd G y0 a21 (ob 18 fs24)) ∧ wp_J2_size G (fun x23 y22 => post x23 y22) y0 a21) ∧ (¬ i1 = nI 2 → (i1 = nI 3 → ∃ f26, fR y0 a0 0 4 f26 ∧ ∃ a27, f26 = some a27 ∧ ∃ f28, fI y0 a27 1 7 f28 ∧ post f28 y0) ∧ (¬ i1 = nI 3 → (i1 = nI 4 → ∃ f30, fR y0 a0 0 4 f30 ∧ ∃ a31, f30 = some a31 ∧ ∃ f32, fR y0 a31 1 3 f32 ∧ ∃ a33, f32 = some a33 ∧ (∃ fs36, rd G y0 a33 (ob 18 fs36)) ∧ wp_J2_size G (fun x35 y34 => post x35 y34) y0 a33) ∧ (¬ i1 = nI 4 → (i1 = nI 5 → (∃ fs40, rd G y0 a0 (ob 0 fs40)) ∧ wp_X1_dead G (fun x39 y38 => post x39 y38) y0 a0) ∧ (¬ i1 = nI 5 → (i1 = nI 6 → ∃ f42, fR y0 a0 0 3 f42 ∧ ∃ a43, f42 = some a43 ∧ (∃ fs46, rd G y0 a43 (ob 18 fs46)) ∧ wp_J2_size G (fun x45 y44 => post x45 y44) y0 a43) ∧ (¬ i1 = nI 6 → (i1 = nI 7 → (∃ fs50, rd G y0 a0 (ob 0 fs50)) ∧ wp_X1_weights G (fun x49 y48 => post x49 y48) y0 a0) ∧ (¬ i1 = nI 7 → (i1 = nI 8 → (∃ fs54, rd G y0 a0 (ob 0 fs54)) ∧ wp_X1_staysOf G (fun x53 y52 => post x53 y52) y0 a0 ((-1))) ∧ (¬ i1 = nI 8 → (i1 = nI 9 → ∃ f56, fI y0 a0 0 1 f56 ∧ post f56 y0) ∧ (¬ i1 = nI 9 → (i1 = nI 10 → ∃ f58, fR y0 a0 0 4 f58 ∧ ∃ a59, f58 = some a59 ∧ ∃ f60, fI y0 a59 1 8 f60 ∧ post f60 y0) ∧ (¬ i1 = nI 10 → post ((-1)) y0)))))))))))
theorem hs_X1_count : yX1_count.cls ≠ "java/lang/invoke/MethodHandle" ∧ yX1_count.cls ≠ "java/lang/invoke/VarHandle" ∧ (parseMethodDescriptor yX1_count.desc).map (fun d => d.parameters.length) = some 1 := by decide +kernel
theorem hd_X1_count : yX1_count.cls = RX1 ∧ yX1_count.cls ≠ "java/lang/invoke/MethodHandle" ∧ yX1_count.cls ≠ "java/lang/invoke/VarHandle" ∧ (parseMethodDescriptor yX1_count.desc).map (fun d => d.parameters.length) = some 1 := by decide +kernel
set_option maxHeartbeats 4000000 in
theorem met_X1_count (l : Launch) (htr : l.stackTraces = false) (G : GP) (d : Nat) {post : Int32 → HS → Prop} {y0 : HS} {a0 : Nat} {i1 : Int32} (hw : wp_X1_count G post y0 a0 i1) : vx_Met l yX1_count (ws_ yX1_count cX1_count 2 (some .int)) (rmB (d + 63) 0) (hPc G y0 [va_rf (some a0), .int (i1)]) (hQi G y0 post) (hX G y0 (fun _ _ _ => False)) 0 (20 * 0) (HA y0) := by
  unfold wp_X1_count at hw
  refine hv_met (own := RX1) (by decide) rfl (Nat.le_of_ble_eq_true rfl) ?_
  intro p e s m args below meth c ls E hr hlocks hnm hE hK hI hl
  replace hl : lv_has ls 2 [(0, va_rf (some a0)), (1, .int (i1))] := hl
  refine lv_iload_n E.1 E.2.1 dX1_count_0 rfl (lv_at hl 1 rfl) ?_
  by_cases c1 : i1 = nI 0
  · replace hw := hw.1 c1
    have hti : i1.toInt = 0 := by rw [c1]; decide
    refine lv_tableIn (tgt := 60) (off := 59) E.1 E.2.1 dX1_count_1 (by rw [hti]; decide) (by rw [hti]; decide) (by rw [hti]; rfl) (by decide) ?_
    refine hv_aload_n (r := some a0) E.1 E.2.1 dX1_count_60 rfl (lv_at hl 0 rfl) ?_
    obtain ⟨f2, ⟨fs, hfs, hfk⟩, hw⟩ := hw
    refine hv_get (v := va_rf f2) E hK hI ciX1 4 (Nat.le_of_ble_eq_true rfl) q1424 (fun _ h => h) (Or.inl hfs) hfk dX1_count_61 ?_
    obtain ⟨a3, ea3, hw⟩ := hw
    revert hl hw; subst ea3; intro hl hw
    obtain ⟨f4, ⟨fs, hfs, hfk⟩, hw⟩ := hw
    refine hv_getN (v := va_rf f4) E hK hI ciX2 0 (Nat.le_of_ble_eq_true rfl) q233 (fun _ h => h) (Or.inl hfs) hfk dX1_count_64 ?_
    obtain ⟨a5, ea5, hw⟩ := hw
    revert hl hw; subst ea5; intro hl hw
    obtain ⟨⟨fs8, hrv⟩, hw⟩ := hw
    have hq := hw
    clear hw
    refine hv_calli (u := 0) (B1 := 0) hI (vx_runV (As := []) (rest := []) E (met_J2_size l G (d + 62) hq) (cwV 0 E.2.2.2.2 (lw_V q1453 q752 q753 q124 q754) rfl rfl rfl hd_J2_size (rm_ok (by omega) (by decide))) (hv_preV hK hI hrv rfl) rfl rfl hl.1 rfl (lv_room (by first | rfl | decide | (simp [va_rf_cat, int_cat, long_cat]; done) | (simp [va_rf_cat, int_cat, long_cat]; decide))) dX1_count_67 (hv_fit (by first | exact (Nat.le_refl 0) | omega))) (fun _ _ _ _ _ h => h.elim) (fun x7 y6 H locs hw hI => ?_)
    exact hv_ireti E hr hlocks hI (Nat.le_refl 0) hw dX1_count_70
  replace hw := hw.2 c1
  by_cases c9 : i1 = nI 1
  · replace hw := hw.1 c9
    have hti : i1.toInt = 1 := by rw [c9]; decide
    refine lv_tableIn (tgt := 71) (off := 70) E.1 E.2.1 dX1_count_1 (by rw [hti]; decide) (by rw [hti]; decide) (by rw [hti]; rfl) (by decide) ?_
    refine hv_aload_n (r := some a0) E.1 E.2.1 dX1_count_71 rfl (lv_at hl 0 rfl) ?_
    obtain ⟨f10, ⟨fs, hfs, hfk⟩, hw⟩ := hw
    refine hv_get (v := va_rf f10) E hK hI ciX1 4 (Nat.le_of_ble_eq_true rfl) q1424 (fun _ h => h) (Or.inl hfs) hfk dX1_count_72 ?_
    obtain ⟨a11, ea11, hw⟩ := hw
    revert hl hw; subst ea11; intro hl hw
    obtain ⟨f12, ⟨fs, hfs, hfk⟩, hw⟩ := hw
    refine hv_getN (v := va_rf f12) E hK hI ciX2 1 (Nat.le_of_ble_eq_true rfl) q237 (fun _ h => h) (Or.inl hfs) hfk dX1_count_75 ?_
    obtain ⟨a13, ea13, hw⟩ := hw
    revert hl hw; subst ea13; intro hl hw
    obtain ⟨⟨fs16, hrv⟩, hw⟩ := hw
    have hq := hw
    clear hw
    refine hv_calli (u := 0) (B1 := 0) hI (vx_runV (As := []) (rest := []) E (met_J2_size l G (d + 62) hq) (cwV 0 E.2.2.2.2 (lw_V q1453 q752 q753 q124 q754) rfl rfl rfl hd_J2_size (rm_ok (by omega) (by decide))) (hv_preV hK hI hrv rfl) rfl rfl hl.1 rfl (lv_room (by first | rfl | decide | (simp [va_rf_cat, int_cat, long_cat]; done) | (simp [va_rf_cat, int_cat, long_cat]; decide))) dX1_count_78 (hv_fit (by first | exact (Nat.le_refl 0) | omega))) (fun _ _ _ _ _ h => h.elim) (fun x15 y14 H locs hw hI => ?_)
    exact hv_ireti E hr hlocks hI (Nat.le_refl 0) hw dX1_count_81
  replace hw := hw.2 c9
  by_cases c17 : i1 = nI 2
  · replace hw := hw.1 c17
    have hti : i1.toInt = 2 := by rw [c17]; decide
    refine lv_tableIn (tgt := 82) (off := 81) E.1 E.2.1 dX1_count_1 (by rw [hti]; decide) (by rw [hti]; decide) (by rw [hti]; rfl) (by decide) ?_
    refine hv_aload_n (r := some a0) E.1 E.2.1 dX1_count_82 rfl (lv_at hl 0 rfl) ?_
    obtain ⟨f18, ⟨fs, hfs, hfk⟩, hw⟩ := hw
    refine hv_get (v := va_rf f18) E hK hI ciX1 4 (Nat.le_of_ble_eq_true rfl) q1424 (fun _ h => h) (Or.inl hfs) hfk dX1_count_83 ?_
    obtain ⟨a19, ea19, hw⟩ := hw
    revert hl hw; subst ea19; intro hl hw
    obtain ⟨f20, ⟨fs, hfs, hfk⟩, hw⟩ := hw
    refine hv_getN (v := va_rf f20) E hK hI ciX2 2 (Nat.le_of_ble_eq_true rfl) q241 (fun _ h => h) (Or.inl hfs) hfk dX1_count_86 ?_
    obtain ⟨a21, ea21, hw⟩ := hw
    revert hl hw; subst ea21; intro hl hw
    obtain ⟨⟨fs24, hrv⟩, hw⟩ := hw
    have hq := hw
    clear hw
    refine hv_calli (u := 0) (B1 := 0) hI (vx_runV (As := []) (rest := []) E (met_J2_size l G (d + 62) hq) (cwV 0 E.2.2.2.2 (lw_V q1453 q752 q753 q124 q754) rfl rfl rfl hd_J2_size (rm_ok (by omega) (by decide))) (hv_preV hK hI hrv rfl) rfl rfl hl.1 rfl (lv_room (by first | rfl | decide | (simp [va_rf_cat, int_cat, long_cat]; done) | (simp [va_rf_cat, int_cat, long_cat]; decide))) dX1_count_89 (hv_fit (by first | exact (Nat.le_refl 0) | omega))) (fun _ _ _ _ _ h => h.elim) (fun x23 y22 H locs hw hI => ?_)
    exact hv_ireti E hr hlocks hI (Nat.le_refl 0) hw dX1_count_92
  replace hw := hw.2 c17
  by_cases c25 : i1 = nI 3
  · replace hw := hw.1 c25
    have hti : i1.toInt = 3 := by rw [c25]; decide
    refine lv_tableIn (tgt := 93) (off := 92) E.1 E.2.1 dX1_count_1 (by rw [hti]; decide) (by rw [hti]; decide) (by rw [hti]; rfl) (by decide) ?_
    refine hv_aload_n (r := some a0) E.1 E.2.1 dX1_count_93 rfl (lv_at hl 0 rfl) ?_
    obtain ⟨f26, ⟨fs, hfs, hfk⟩, hw⟩ := hw
    refine hv_get (v := va_rf f26) E hK hI ciX1 4 (Nat.le_of_ble_eq_true rfl) q1424 (fun _ h => h) (Or.inl hfs) hfk dX1_count_94 ?_
    obtain ⟨a27, ea27, hw⟩ := hw
    revert hl hw; subst ea27; intro hl hw
    obtain ⟨f28, ⟨fs, hfs, hfk⟩, hw⟩ := hw
    refine hv_getN (v := .int f28) E hK hI ciX2 7 (Nat.le_of_ble_eq_true rfl) q254 (fun _ h => h) (Or.inl hfs) hfk dX1_count_97 ?_
    exact hv_ireti E hr hlocks hI (Nat.le_refl 0) hw dX1_count_100
  replace hw := hw.2 c25
  by_cases c29 : i1 = nI 4
  · replace hw := hw.1 c29
    have hti : i1.toInt = 4 := by rw [c29]; decide
    refine lv_tableIn (tgt := 101) (off := 100) E.1 E.2.1 dX1_count_1 (by rw [hti]; decide) (by rw [hti]; decide) (by rw [hti]; rfl) (by decide) ?_
    refine hv_aload_n (r := some a0) E.1 E.2.1 dX1_count_101 rfl (lv_at hl 0 rfl) ?_
    obtain ⟨f30, ⟨fs, hfs, hfk⟩, hw⟩ := hw
    refine hv_get (v := va_rf f30) E hK hI ciX1 4 (Nat.le_of_ble_eq_true rfl) q1424 (fun _ h => h) (Or.inl hfs) hfk dX1_count_102 ?_
    obtain ⟨a31, ea31, hw⟩ := hw
    revert hl hw; subst ea31; intro hl hw
    obtain ⟨f32, ⟨fs, hfs, hfk⟩, hw⟩ := hw
    refine hv_getN (v := va_rf f32) E hK hI ciX2 3 (Nat.le_of_ble_eq_true rfl) q243 (fun _ h => h) (Or.inl hfs) hfk dX1_count_105 ?_
    obtain ⟨a33, ea33, hw⟩ := hw
    revert hl hw; subst ea33; intro hl hw
    obtain ⟨⟨fs36, hrv⟩, hw⟩ := hw
    have hq := hw
    clear hw
    refine hv_calli (u := 0) (B1 := 0) hI (vx_runV (As := []) (rest := []) E (met_J2_size l G (d + 62) hq) (cwV 0 E.2.2.2.2 (lw_V q1453 q752 q753 q124 q754) rfl rfl rfl hd_J2_size (rm_ok (by omega) (by decide))) (hv_preV hK hI hrv rfl) rfl rfl hl.1 rfl (lv_room (by first | rfl | decide | (simp [va_rf_cat, int_cat, long_cat]; done) | (simp [va_rf_cat, int_cat, long_cat]; decide))) dX1_count_108 (hv_fit (by first | exact (Nat.le_refl 0) | omega))) (fun _ _ _ _ _ h => h.elim) (fun x35 y34 H locs hw hI => ?_)
    exact hv_ireti E hr hlocks hI (Nat.le_refl 0) hw dX1_count_111
  replace hw := hw.2 c29
  by_cases c37 : i1 = nI 5
  · replace hw := hw.1 c37
    have hti : i1.toInt = 5 := by rw [c37]; decide
    refine lv_tableIn (tgt := 112) (off := 111) E.1 E.2.1 dX1_count_1 (by rw [hti]; decide) (by rw [hti]; decide) (by rw [hti]; rfl) (by decide) ?_
    refine hv_aload_n (r := some a0) E.1 E.2.1 dX1_count_112 rfl (lv_at hl 0 rfl) ?_
    obtain ⟨⟨fs40, hrv⟩, hw⟩ := hw
    have hq := hw
    clear hw
    refine hv_calli (u := 0) (B1 := 0) hI (vx_runV (As := []) (rest := []) E (met_X1_dead l htr G (d + 59) hq) (cwV 0 E.2.2.2.2 (lw_V q1771 q1773 qs56 q121 q1774) rfl rfl rfl hd_X1_dead (rm_ok (by omega) (by decide))) (hv_preV hK hI hrv rfl) rfl rfl hl.1 rfl (lv_room (by first | rfl | decide | (simp [va_rf_cat, int_cat, long_cat]; done) | (simp [va_rf_cat, int_cat, long_cat]; decide))) dX1_count_113 (hv_fit (by first | exact (Nat.le_refl 0) | omega))) (fun _ _ _ _ _ h => h.elim) (fun x39 y38 H locs hw hI => ?_)
    exact hv_ireti E hr hlocks hI (Nat.le_refl 0) hw dX1_count_116
  replace hw := hw.2 c37
  by_cases c41 : i1 = nI 6
  · replace hw := hw.1 c41
    have hti : i1.toInt = 6 := by rw [c41]; decide
    refine lv_tableIn (tgt := 117) (off := 116) E.1 E.2.1 dX1_count_1 (by rw [hti]; decide) (by rw [hti]; decide) (by rw [hti]; rfl) (by decide) ?_
    refine hv_aload_n (r := some a0) E.1 E.2.1 dX1_count_117 rfl (lv_at hl 0 rfl) ?_
    obtain ⟨f42, ⟨fs, hfs, hfk⟩, hw⟩ := hw
    refine hv_get (v := va_rf f42) E hK hI ciX1 3 (Nat.le_of_ble_eq_true rfl) q1423 (fun _ h => h) (Or.inl hfs) hfk dX1_count_118 ?_
    obtain ⟨a43, ea43, hw⟩ := hw
    revert hl hw; subst ea43; intro hl hw
    obtain ⟨⟨fs46, hrv⟩, hw⟩ := hw
    have hq := hw
    clear hw
    refine hv_calli (u := 0) (B1 := 0) hI (vx_runV (As := []) (rest := []) E (met_J2_size l G (d + 62) hq) (cwV 0 E.2.2.2.2 (lw_V q1453 q752 q753 q124 q754) rfl rfl rfl hd_J2_size (rm_ok (by omega) (by decide))) (hv_preV hK hI hrv rfl) rfl rfl hl.1 rfl (lv_room (by first | rfl | decide | (simp [va_rf_cat, int_cat, long_cat]; done) | (simp [va_rf_cat, int_cat, long_cat]; decide))) dX1_count_121 (hv_fit (by first | exact (Nat.le_refl 0) | omega))) (fun _ _ _ _ _ h => h.elim) (fun x45 y44 H locs hw hI => ?_)
    exact hv_ireti E hr hlocks hI (Nat.le_refl 0) hw dX1_count_124
  replace hw := hw.2 c41
  by_cases c47 : i1 = nI 7
  · replace hw := hw.1 c47
    have hti : i1.toInt = 7 := by rw [c47]; decide
    refine lv_tableIn (tgt := 125) (off := 124) E.1 E.2.1 dX1_count_1 (by rw [hti]; decide) (by rw [hti]; decide) (by rw [hti]; rfl) (by decide) ?_
    refine hv_aload_n (r := some a0) E.1 E.2.1 dX1_count_125 rfl (lv_at hl 0 rfl) ?_
    obtain ⟨⟨fs50, hrv⟩, hw⟩ := hw
    have hq := hw
    clear hw
    refine hv_calli (u := 0) (B1 := 0) hI (vx_runV (As := []) (rest := []) E (met_X1_weights l htr G (d) hq) (cwV 0 E.2.2.2.2 (lw_V q1775 q1777 qs57 q121 q1778) rfl rfl rfl hd_X1_weights (rm_ok (by omega) (by decide))) (hv_preV hK hI hrv rfl) rfl rfl hl.1 rfl (lv_room (by first | rfl | decide | (simp [va_rf_cat, int_cat, long_cat]; done) | (simp [va_rf_cat, int_cat, long_cat]; decide))) dX1_count_126 (hv_fit (by first | exact (Nat.le_refl 0) | omega))) (fun _ _ _ _ _ h => h.elim) (fun x49 y48 H locs hw hI => ?_)
    exact hv_ireti E hr hlocks hI (Nat.le_refl 0) hw dX1_count_129
  replace hw := hw.2 c47
  by_cases c51 : i1 = nI 8
  · replace hw := hw.1 c51
    have hti : i1.toInt = 8 := by rw [c51]; decide
    refine lv_tableIn (tgt := 130) (off := 129) E.1 E.2.1 dX1_count_1 (by rw [hti]; decide) (by rw [hti]; decide) (by rw [hti]; rfl) (by decide) ?_
    refine hv_aload_n (r := some a0) E.1 E.2.1 dX1_count_130 rfl (lv_at hl 0 rfl) ?_
    refine lv_iconst (v := (-1)) E.1 E.2.1 dX1_count_131 rfl ?_
    obtain ⟨⟨fs54, hrv⟩, hw⟩ := hw
    have hq := hw
    clear hw
    refine hv_calli (u := 0) (B1 := 0) hI (vx_runV (As := [.int ((-1))]) (rest := []) E (met_X1_staysOf l htr G (d) hq) (cwV 1 E.2.2.2.2 (lw_V q1709 q1711 qs53 q121 q1712) rfl rfl rfl hd_X1_staysOf (rm_ok (by omega) (by decide))) (hv_preV hK hI hrv rfl) rfl rfl hl.1 rfl (lv_room (by first | rfl | decide | (simp [va_rf_cat, int_cat, long_cat]; done) | (simp [va_rf_cat, int_cat, long_cat]; decide))) dX1_count_132 (hv_fit (by first | exact (Nat.le_refl 0) | omega))) (fun _ _ _ _ _ h => h.elim) (fun x53 y52 H locs hw hI => ?_)
    exact hv_ireti E hr hlocks hI (Nat.le_refl 0) hw dX1_count_135
  replace hw := hw.2 c51
  by_cases c55 : i1 = nI 9
  · replace hw := hw.1 c55
    have hti : i1.toInt = 9 := by rw [c55]; decide
    refine lv_tableIn (tgt := 136) (off := 135) E.1 E.2.1 dX1_count_1 (by rw [hti]; decide) (by rw [hti]; decide) (by rw [hti]; rfl) (by decide) ?_
    refine hv_aload_n (r := some a0) E.1 E.2.1 dX1_count_136 rfl (lv_at hl 0 rfl) ?_
    obtain ⟨f56, ⟨fs, hfs, hfk⟩, hw⟩ := hw
    refine hv_get (v := .int f56) E hK hI ciX1 1 (Nat.le_of_ble_eq_true rfl) q1421 (fun _ h => h) (Or.inl hfs) hfk dX1_count_137 ?_
    exact hv_ireti E hr hlocks hI (Nat.le_refl 0) hw dX1_count_140
  replace hw := hw.2 c55
  by_cases c57 : i1 = nI 10
  · replace hw := hw.1 c57
    have hti : i1.toInt = 10 := by rw [c57]; decide
    refine lv_tableIn (tgt := 141) (off := 140) E.1 E.2.1 dX1_count_1 (by rw [hti]; decide) (by rw [hti]; decide) (by rw [hti]; rfl) (by decide) ?_
    refine hv_aload_n (r := some a0) E.1 E.2.1 dX1_count_141 rfl (lv_at hl 0 rfl) ?_
    obtain ⟨f58, ⟨fs, hfs, hfk⟩, hw⟩ := hw
    refine hv_get (v := va_rf f58) E hK hI ciX1 4 (Nat.le_of_ble_eq_true rfl) q1424 (fun _ h => h) (Or.inl hfs) hfk dX1_count_142 ?_
    obtain ⟨a59, ea59, hw⟩ := hw
    revert hl hw; subst ea59; intro hl hw
    obtain ⟨f60, ⟨fs, hfs, hfk⟩, hw⟩ := hw
    refine hv_getN (v := .int f60) E hK hI ciX2 8 (Nat.le_of_ble_eq_true rfl) q256 (fun _ h => h) (Or.inl hfs) hfk dX1_count_145 ?_
    exact hv_ireti E hr hlocks hI (Nat.le_refl 0) hw dX1_count_148
  replace hw := hw.2 c57
  refine lv_tableOut (tgt := 149) E.1 E.2.1 dX1_count_1 (tab_out (fun j h1 h2 h3 => ?_)) (by decide) ?_
  · have hj : j = 0 ∨ j = 1 ∨ j = 2 ∨ j = 3 ∨ j = 4 ∨ j = 5 ∨ j = 6 ∨ j = 7 ∨ j = 8 ∨ j = 9 ∨ j = 10 := by omega
    rcases hj with rfl | rfl | rfl | rfl | rfl | rfl | rfl | rfl | rfl | rfl | rfl
    · exact c1 (Int32.toInt_inj.mp (by rw [h3]; decide))
    · exact c9 (Int32.toInt_inj.mp (by rw [h3]; decide))
    · exact c17 (Int32.toInt_inj.mp (by rw [h3]; decide))
    · exact c25 (Int32.toInt_inj.mp (by rw [h3]; decide))
    · exact c29 (Int32.toInt_inj.mp (by rw [h3]; decide))
    · exact c37 (Int32.toInt_inj.mp (by rw [h3]; decide))
    · exact c41 (Int32.toInt_inj.mp (by rw [h3]; decide))
    · exact c47 (Int32.toInt_inj.mp (by rw [h3]; decide))
    · exact c51 (Int32.toInt_inj.mp (by rw [h3]; decide))
    · exact c55 (Int32.toInt_inj.mp (by rw [h3]; decide))
    · exact c57 (Int32.toInt_inj.mp (by rw [h3]; decide))
  · skip
    refine lv_iconst (v := (-1)) E.1 E.2.1 dX1_count_149 rfl ?_
    exact hv_ireti E hr hlocks hI (Nat.le_refl 0) hw dX1_count_150
/-- CaseGrouper.listed(III)I -/
def wp_X1_listed (G : GP) (B : Nat) (post : Int32 → HS → Prop) (xp : Nat → Nat → HS → Prop) (y0 : HS) (a0 : Nat) (i1 : Int32) (i2 : Int32) (i3 : Int32) : Prop := ∃ J1 : HS → Nat → Prop, (∀ (y3 : HS) (u4 : Nat), J1 y3 u4 → u4 ≤ B ∧ u4 + 60 ≤ B ∧ ∀ (q5 : Nat) (y6 : HS), y6.1 = y3.1 → y3.2 ≤ y6.2 → xp 23 q5 y6) ∧ ((∃ fs9, rd G y0 a0 (ob 0 fs9)) ∧ wp_X1_isStay G (fun b8 y7 => (b8 = false → J1 y7 0 ) ∧ (b8 = true → wp_X1_within G (fun b12 y11 => (b12 = true → ∃ J14 : HS → Nat → (Option Nat) → Prop, (∀ (y16 : HS) (u18 : Nat) (r17 : Option Nat), J14 y16 u18 r17 → u18 ≤ B ∧ ∃ a19, r17 = some a19 ∧ (∃ fs22, rd G y16 a19 (ob 18 fs22)) ∧ wp_J2_size G (fun x21 y20 => wp_X1_within G (fun b24 y23 => (b24 = true → (∃ fs28, rd G y23 a19 (ob 18 fs28)) ∧ wp_J2_get G (fun r27 y26 => isOf G y26 r27 21 ∧ ∃ a29, r27 = some a29 ∧ (∃ fs32, rd G y26 a29 (ob 21 fs32)) ∧ wp_J13_intValue G (fun x31 y30 => post x31 y30) y26 a29) y23 a19 i3) ∧ (b24 = false → u18 + 60 ≤ B ∧ ∀ (q33 : Nat) (y34 : HS), y34.1 = y23.1 → y23.2 ≤ y34.2 → xp 23 q33 y34)) y20 i3 (nI 0) (x21 - (nI 1))) y16 a19) ∧ (∃ f35, fR y11 a0 0 3 f35 ∧ ∃ a36, f35 = some a36 ∧ (∃ fs39, rd G y11 a36 (ob 18 fs39)) ∧ wp_J2_get G (fun r38 y37 => isOf G y37 r38 17 ∧ (¬ i2 = 0 → ∃ a41, r38 = some a41 ∧ ∃ f42, fR y37 a41 17 4 f42 ∧ J14 y37 0 f42) ∧ (i2 = 0 → ∃ a43, r38 = some a43 ∧ ∃ f44, fR y37 a43 17 3 f44 ∧ J14 y37 0 f44)) y11 a36 i1)) ∧ (b12 = false → J1 y11 0 )) y7 i2 (nI 0) (nI 1))) y0 a0 i1)
theorem hs_X1_listed : yX1_listed.cls ≠ "java/lang/invoke/MethodHandle" ∧ yX1_listed.cls ≠ "java/lang/invoke/VarHandle" ∧ (parseMethodDescriptor yX1_listed.desc).map (fun d => d.parameters.length) = some 3 := by decide +kernel
theorem hd_X1_listed : yX1_listed.cls = RX1 ∧ yX1_listed.cls ≠ "java/lang/invoke/MethodHandle" ∧ yX1_listed.cls ≠ "java/lang/invoke/VarHandle" ∧ (parseMethodDescriptor yX1_listed.desc).map (fun d => d.parameters.length) = some 3 := by decide +kernel
set_option maxHeartbeats 4000000 in
theorem met_X1_listed (l : Launch) (htr : l.stackTraces = false) (G : GP) (d : Nat) {B : Nat} {post : Int32 → HS → Prop} {xp : Nat → Nat → HS → Prop} {y0 : HS} {a0 : Nat} {i1 : Int32} {i2 : Int32} {i3 : Int32} (hw : wp_X1_listed G B post xp y0 a0 i1 i2 i3) : vx_Met l yX1_listed (ws_ yX1_listed cX1_listed 6 (some .int)) (rmB (d + 230) B) (hPc G y0 [va_rf (some a0), .int (i1), .int (i2), .int (i3)]) (hQi G y0 post) (hX G y0 xp) B (20 * B) (HA y0) := by
  unfold wp_X1_listed at hw
  refine hv_met (own := RX1) (by decide) rfl (Nat.le_of_ble_eq_true rfl) ?_
  intro p e s m args below meth c ls E hr hlocks hnm hE hK hI hl
  replace hl : lv_has ls 6 [(0, va_rf (some a0)), (1, .int (i1)), (2, .int (i2)), (3, .int (i3))] := hl
  have hu : 0 ≤ B := Nat.zero_le _
  obtain ⟨J1, hj46, hw⟩ := hw
  have jh2 : ∀ (y3 : HS) (u4 : Nat), J1 y3 u4 → ∀ (H : Heap) (locs : List Loc) (ls : Array Slot), HI G y0 y3 s H locs → lv_has ls 6 [] → W p l e (rmB (d + 230) B) s m args below meth c H locs u4 (20 * u4) (vx_MQ below (hQi G y0 post) (hX G y0 xp) args s B (20 * B) (HA y0)) (F0 m 17 ls []) := by
    intro y3 u4 hw H locs ls hI hl
    replace hw := hj46 y3 u4 hw
    obtain ⟨hu, hw⟩ := hw
    obtain ⟨hu, hw⟩ := hw
    refine hv_nsee htr E hK hI hlocks hl.1 hu (by first | rfl | decide | (simp [va_rf_cat, int_cat, long_cat]; done) | (simp [va_rf_cat, int_cat, long_cat]; decide)) dX1_listed_17 dX1_listed_20 dX1_listed_21 dX1_listed_24 rfl (fun q5 y6 H e1 e2 hI hc => hv_out hE hlocks hI hc hu (hw q5 y6 e1 e2))
  refine hv_aload_n (r := some a0) E.1 E.2.1 dX1_listed_0 rfl (lv_at hl 0 rfl) ?_
  refine lv_iload_n E.1 E.2.1 dX1_listed_1 rfl (lv_at hl 1 rfl) ?_
  obtain ⟨⟨fs9, hrv⟩, hw⟩ := hw
  have hq := hw
  clear hw
  refine hv_callz (u := 0) (B1 := 0) hI (vx_runV (As := [.int (i1)]) (rest := []) E (met_X1_isStay l htr G (d + 228) hq) (cwV 1 E.2.2.2.2 (lw_V q1491 q1493 qs44 q121 q1494) rfl rfl rfl hd_X1_isStay (rm_ok (by omega) (by decide))) (hv_preV hK hI hrv rfl) rfl rfl hl.1 rfl (lv_room (by first | rfl | decide | (simp [va_rf_cat, int_cat, long_cat]; done) | (simp [va_rf_cat, int_cat, long_cat]; decide))) dX1_listed_2 (hv_fit (by first | exact hu | omega))) (fun _ _ _ _ _ h => h.elim) (fun b8 y7 H locs hw hI => ?_)
  refine lv_if_eq (tgt := 17) E.1 E.2.1 dX1_listed_5 (by decide) (fun c10 => ?_) (fun c10 => ?_)
  · replace hw := hw.1 (bi_z c10)
    exact jh2 _ _ hw _ _ _ hI (lv_sub hl [] rfl)
  · replace hw := hw.2 (bi_n c10)
    refine lv_iload_n E.1 E.2.1 dX1_listed_8 rfl (lv_at hl 2 rfl) ?_
    refine lv_iconst (v := nI 0) E.1 E.2.1 dX1_listed_9 rfl ?_
    refine lv_iconst (v := nI 1) E.1 E.2.1 dX1_listed_10 rfl ?_
    have hq := hw
    clear hw
    refine hv_callz (u := 0) (B1 := 0) hI (vx_runS (As := [.int (i2), .int (nI 0), .int (nI 1)]) (rest := []) E (met_X1_within l G (d + 229) hq) (va_cwS 3 E.2.2.2.2 (lw_S q180 q181 q121 q182) rfl rfl rfl hs_X1_within (rm_ok (by omega) (by decide))) (hv_preS hK hI) rfl rfl hl.1 rfl (lv_room (by first | rfl | decide | (simp [va_rf_cat, int_cat, long_cat]; done) | (simp [va_rf_cat, int_cat, long_cat]; decide))) dX1_listed_11 (hv_fit (by first | exact hu | omega))) (fun _ _ _ _ _ h => h.elim) (fun b12 y11 H locs hw hI => ?_)
    refine lv_if_ne (tgt := 25) E.1 E.2.1 dX1_listed_14 (by decide) (fun c13 => ?_) (fun c13 => ?_)
    · replace hw := hw.1 (bi_n c13)
      obtain ⟨J14, hj45, hw⟩ := hw
      have jh15 : ∀ (y16 : HS) (u18 : Nat) (r17 : Option Nat), J14 y16 u18 r17 → ∀ (H : Heap) (locs : List Loc) (ls : Array Slot), HI G y0 y16 s H locs → lv_has ls 6 [(3, .int (i3))] → W p l e (rmB (d + 230) B) s m args below meth c H locs u18 (20 * u18) (vx_MQ below (hQi G y0 post) (hX G y0 xp) args s B (20 * B) (HA y0)) (F0 m 55 ls [va_rf r17]) := by
        intro y16 u18 r17 hw H locs ls hI hl
        replace hw := hj45 y16 u18 r17 hw
        obtain ⟨hu, hw⟩ := hw
        refine hv_astore (r := r17) (lv' := [(5, va_rf r17), (3, .int (i3))]) E.1 E.2.1 dX1_listed_55 hl (Nat.le_of_ble_eq_true rfl) rfl (fun ls hl => ?_)
        refine lv_iload_n E.1 E.2.1 dX1_listed_57 rfl (lv_at hl 1 rfl) ?_
        refine lv_iconst (v := nI 0) E.1 E.2.1 dX1_listed_58 rfl ?_
        refine hv_aload (r := r17) E.1 E.2.1 dX1_listed_59 (lv_at hl 0 rfl) ?_
        obtain ⟨a19, ea19, hw⟩ := hw
        revert hl hw; subst ea19; intro hl hw
        obtain ⟨⟨fs22, hrv⟩, hw⟩ := hw
        have hq := hw
        clear hw
        refine hv_calli (u := u18) (B1 := 0) hI (vx_runV (As := []) (rest := [.int (nI 0), .int (i3)]) E (met_J2_size l G (d + 229) hq) (cwV 0 E.2.2.2.2 (lw_V q1453 q752 q753 q124 q754) rfl rfl rfl hd_J2_size (rm_ok (by omega) (by decide))) (hv_preV hK hI hrv rfl) rfl rfl hl.1 rfl (lv_room (by first | rfl | decide | (simp [va_rf_cat, int_cat, long_cat]; done) | (simp [va_rf_cat, int_cat, long_cat]; decide))) dX1_listed_61 (hv_fit (by first | exact hu | omega))) (fun _ _ _ _ _ h => h.elim) (fun x21 y20 H locs hw hI => ?_)
        refine lv_iconst (v := nI 1) E.1 E.2.1 dX1_listed_64 rfl ?_
        refine lv_isub E.1 E.2.1 dX1_listed_65 ?_
        have hq := hw
        clear hw
        refine hv_callz (u := u18) (B1 := 0) hI (vx_runS (As := [.int (i3), .int (nI 0), .int (x21 - (nI 1))]) (rest := []) E (met_X1_within l G (d + 229) hq) (va_cwS 3 E.2.2.2.2 (lw_S q180 q181 q121 q182) rfl rfl rfl hs_X1_within (rm_ok (by omega) (by decide))) (hv_preS hK hI) rfl rfl hl.1 rfl (lv_room (by first | rfl | decide | (simp [va_rf_cat, int_cat, long_cat]; done) | (simp [va_rf_cat, int_cat, long_cat]; decide))) dX1_listed_66 (hv_fit (by first | exact hu | omega))) (fun _ _ _ _ _ h => h.elim) (fun b24 y23 H locs hw hI => ?_)
        refine lv_if_ne (tgt := 80) E.1 E.2.1 dX1_listed_69 (by decide) (fun c25 => ?_) (fun c25 => ?_)
        · replace hw := hw.1 (bi_n c25)
          refine hv_aload (r := some a19) E.1 E.2.1 dX1_listed_80 (lv_at hl 0 rfl) ?_
          refine lv_iload_n E.1 E.2.1 dX1_listed_82 rfl (lv_at hl 1 rfl) ?_
          obtain ⟨⟨fs28, hrv⟩, hw⟩ := hw
          have hq := hw
          clear hw
          refine hv_callq (u := u18) (B1 := 0) hI (vx_runV (As := [.int (i3)]) (rest := []) E (met_J2_get l G (d + 227) hq) (cwV 1 E.2.2.2.2 (lw_V q1495 q785 q786 q124 q787) rfl rfl rfl hd_J2_get (rm_ok (by omega) (by decide))) (hv_preV hK hI hrv rfl) rfl rfl hl.1 rfl (lv_room (by first | rfl | decide | (simp [va_rf_cat, int_cat, long_cat]; done) | (simp [va_rf_cat, int_cat, long_cat]; decide))) dX1_listed_83 (hv_fit (by first | exact hu | omega))) (fun _ _ _ _ _ h => h.elim) (fun r27 y26 H locs hw hI => ?_)
          obtain ⟨hof, hw⟩ := hw
          refine hv_castC (cn := 21) E hK hI (by decide) q1802 hof dX1_listed_86 ?_
          obtain ⟨a29, ea29, hw⟩ := hw
          revert hl hw; subst ea29; intro hl hw
          obtain ⟨⟨fs32, hrv⟩, hw⟩ := hw
          have hq := hw
          clear hw
          refine hv_calli (u := u18) (B1 := 0) hI (vx_runV (As := []) (rest := []) E (met_J13_intValue l G (d + 229) hq) (cwV 0 E.2.2.2.2 (lw_V q1803 q993 q994 q141 q995) rfl rfl rfl hd_J13_intValue (rm_ok (by omega) (by decide))) (hv_preV hK hI hrv rfl) rfl rfl hl.1 rfl (lv_room (by first | rfl | decide | (simp [va_rf_cat, int_cat, long_cat]; done) | (simp [va_rf_cat, int_cat, long_cat]; decide))) dX1_listed_89 (hv_fit (by first | exact hu | omega))) (fun _ _ _ _ _ h => h.elim) (fun x31 y30 H locs hw hI => ?_)
          exact hv_ireti E hr hlocks hI hu hw dX1_listed_92
        · replace hw := hw.2 (bi_z c25)
          obtain ⟨hu, hw⟩ := hw
          refine hv_nsee htr E hK hI hlocks hl.1 hu (by first | rfl | decide | (simp [va_rf_cat, int_cat, long_cat]; done) | (simp [va_rf_cat, int_cat, long_cat]; decide)) dX1_listed_72 dX1_listed_75 dX1_listed_76 dX1_listed_79 rfl (fun q33 y34 H e1 e2 hI hc => hv_out hE hlocks hI hc hu (hw q33 y34 e1 e2))
      refine hv_aload_n (r := some a0) E.1 E.2.1 dX1_listed_25 rfl (lv_at hl 0 rfl) ?_
      obtain ⟨f35, ⟨fs, hfs, hfk⟩, hw⟩ := hw
      refine hv_get (v := va_rf f35) E hK hI ciX1 3 (Nat.le_of_ble_eq_true rfl) q1423 (fun _ h => h) (Or.inl hfs) hfk dX1_listed_26 ?_
      refine lv_iload_n E.1 E.2.1 dX1_listed_29 rfl (lv_at hl 1 rfl) ?_
      obtain ⟨a36, ea36, hw⟩ := hw
      revert hl hw; subst ea36; intro hl hw
      obtain ⟨⟨fs39, hrv⟩, hw⟩ := hw
      have hq := hw
      clear hw
      refine hv_callq (u := 0) (B1 := 0) hI (vx_runV (As := [.int (i1)]) (rest := []) E (met_J2_get l G (d + 227) hq) (cwV 1 E.2.2.2.2 (lw_V q1495 q785 q786 q124 q787) rfl rfl rfl hd_J2_get (rm_ok (by omega) (by decide))) (hv_preV hK hI hrv rfl) rfl rfl hl.1 rfl (lv_room (by first | rfl | decide | (simp [va_rf_cat, int_cat, long_cat]; done) | (simp [va_rf_cat, int_cat, long_cat]; decide))) dX1_listed_30 (hv_fit (by first | exact hu | omega))) (fun _ _ _ _ _ h => h.elim) (fun r38 y37 H locs hw hI => ?_)
      obtain ⟨hof, hw⟩ := hw
      refine hv_castC (cn := 17) E hK hI (by decide) q1454 hof dX1_listed_33 ?_
      refine hv_astore (r := r38) (lv' := [(4, va_rf r38), (0, va_rf (some a0)), (1, .int (i1)), (2, .int (i2)), (3, .int (i3))]) E.1 E.2.1 dX1_listed_36 hl (Nat.le_of_ble_eq_true rfl) (by first | rfl | decide | (simp [va_rf_cat, int_cat, long_cat]; done) | (simp [va_rf_cat, int_cat, long_cat]; decide)) (fun ls hl => ?_)
      refine lv_iload_n E.1 E.2.1 dX1_listed_38 rfl (lv_at hl 3 rfl) ?_
      refine lv_if_ne (tgt := 50) E.1 E.2.1 dX1_listed_39 (by decide) (fun c40 => ?_) (fun c40 => ?_)
      · replace hw := hw.1 (c40)
        refine hv_aload (r := r38) E.1 E.2.1 dX1_listed_50 (lv_at hl 0 rfl) ?_
        obtain ⟨a41, ea41, hw⟩ := hw
        revert hl hw; subst ea41; intro hl hw
        obtain ⟨f42, ⟨fs, hfs, hfk⟩, hw⟩ := hw
        refine hv_getN (v := va_rf f42) E hK hI ciX19 4 (Nat.le_of_ble_eq_true rfl) q1474 (fun _ h => h) (Or.inl hfs) hfk dX1_listed_52 ?_
        exact jh15 _ _ _ hw _ _ _ hI (lv_sub hl [4] rfl)
      · replace hw := hw.2 (c40)
        refine hv_aload (r := r38) E.1 E.2.1 dX1_listed_42 (lv_at hl 0 rfl) ?_
        obtain ⟨a43, ea43, hw⟩ := hw
        revert hl hw; subst ea43; intro hl hw
        obtain ⟨f44, ⟨fs, hfs, hfk⟩, hw⟩ := hw
        refine hv_getN (v := va_rf f44) E hK hI ciX19 3 (Nat.le_of_ble_eq_true rfl) q1471 (fun _ h => h) (Or.inl hfs) hfk dX1_listed_44 ?_
        refine lv_goto (tgt := 55) E.1 E.2.1 dX1_listed_47 (by decide) ?_
        exact jh15 _ _ _ hw _ _ _ hI (lv_sub hl [4] rfl)
    · replace hw := hw.2 (bi_z c13)
      exact jh2 _ _ hw _ _ _ hI (lv_sub hl [] rfl)
