/-! The model's methods: weakest preconditions and walks, by program (gen_twin.py) -/
set_option maxRecDepth 100000
/-- thrown()I -/
def wp_thrown (post : Int32 → TS → Prop) (z0 : TS) : Prop := post (sx z0 2) z0
theorem hd_thrown : yX5_thrown.cls = RX5 ∧ yX5_thrown.cls ≠ "java/lang/invoke/MethodHandle" ∧ yX5_thrown.cls ≠ "java/lang/invoke/VarHandle" ∧ (parseMethodDescriptor yX5_thrown.desc).map (fun d => d.parameters.length) = some 0 := by decide +kernel
set_option maxHeartbeats 4000000 in
theorem met_thrown (l : Launch) (G : GP) (ta : Nat → Nat) (d : Nat) {post : Int32 → TS → Prop} {z0 : TS} (hw : wp_thrown post z0) : Met l yX5_thrown (ws_ yX5_thrown cX5_thrown 1 (some .int)) (rmd (d + 0) 0 0) (tPc G ta z0 [.ref (ta 73)]) (tQi G ta post) 0 0 (TA ta) := by
  unfold wp_thrown at hw
  refine tw_met (by decide) rfl (Nat.le_of_ble_eq_true rfl) ?_
  intro p e s m args below meth c ls E hr hlocks hK hT hS hl
  replace hl : lv_has ls 1 [(0, .ref (ta 73))] := hl
  refine lv_aload_n E.1 E.2.1 dX5_thrown_0 rfl (lv_at hl 0 rfl) ?_
  refine tw_get E hK hT 2 (Nat.le_of_ble_eq_true rfl) q1812 rfl (v := .int (sx z0 2)) rfl dX5_thrown_1 ?_
  exact tw_ireti E hr hlocks hT hS hw dX5_thrown_4
/-- eight(J)V -/
def wp_eight (post : TS → Prop) (z0 : TS) (j1 : Int64) : Prop := ∃ I1 : Nat → TS → Int32 → Prop, (∃ n7, I1 n7 z0 (nI 56)) ∧ ∀ (n2 : Nat) (z3 : TS) (x6 : Int32), I1 n2 z3 x6 → (x6 < 0 → post z3) ∧ (¬ x6 < 0 → vp_in (sx z3 1) 936 ∧ ∀ z9, z9 = uf z3 0 (sx z3 1).toNatClampNeg (((j1 >>> (x6.toInt64 &&& 63)).toInt32) &&& (nI 255)) → ∀ z10, z10 = ux z9 1 ((sx z9 1) + (nI 1)) → ∃ n11, n11 < n2 ∧ I1 n11 z10 (x6 + (-8)))
theorem hd_eight : yX5_eight.cls = RX5 ∧ yX5_eight.cls ≠ "java/lang/invoke/MethodHandle" ∧ yX5_eight.cls ≠ "java/lang/invoke/VarHandle" ∧ (parseMethodDescriptor yX5_eight.desc).map (fun d => d.parameters.length) = some 1 := by decide +kernel
set_option maxHeartbeats 4000000 in
theorem met_eight (l : Launch) (G : GP) (ta : Nat → Nat) (d : Nat) {post : TS → Prop} {z0 : TS} {j1 : Int64} (hw : wp_eight post z0 j1) : Met l yX5_eight (ws_ yX5_eight cX5_eight 4 none) (rmd (d + 0) 0 0) (tPc G ta z0 [.ref (ta 73), .long (j1)]) (tQv G ta post) 0 0 (TA ta) := by
  unfold wp_eight at hw
  refine tw_met (by decide) rfl (Nat.le_of_ble_eq_true rfl) ?_
  intro p e s m args below meth c ls E hr hlocks hK hT hS hl
  replace hl : lv_has ls 4 [(0, .ref (ta 73)), (1, .long (j1))] := hl
  refine lv_bipush (v := nI 56) E.1 E.2.1 dX5_eight_0 rfl ?_
  refine lv_istore_n (lv' := [(3, .int (nI 56)), (0, .ref (ta 73)), (1, .long (j1))]) E.1 E.2.1 dX5_eight_2 rfl hl (Nat.le_of_ble_eq_true rfl) rfl (fun ls hl => ?_)
  obtain ⟨I1, ⟨n7, hi13⟩, hb12⟩ := hw
  have L5 : ∀ (n2 : Nat) (z3 : TS) (x6 : Int32), I1 n2 z3 x6 → ∀ (H : Heap) (locs : List Loc) (ls : Array Slot), TW G ta z3 H → va_S (TA ta) s.heap H locs → lv_has ls 4 [(0, .ref (ta 73)), (1, .long (j1)), (3, .int (x6))] → W p l e (rmd (d + 0) 0 0) s m args below meth c H locs 0 0 (MQ below (tQv G ta post) args s 0 0 (TA ta)) (F0 m 3 ls []) := by
    intro n2
    induction n2 using Nat.strongRecOn with
    | _ n2 ih4 =>
      intro z3 x6 hw H locs ls hT hS hl
      replace hw := hb12 n2 z3 x6 hw
      refine lv_iload_n E.1 E.2.1 dX5_eight_3 rfl (lv_at hl 2 rfl) ?_
      refine lv_if_lt (tgt := 40) E.1 E.2.1 dX5_eight_4 (by decide) (fun c8 => ?_) (fun c8 => ?_)
      · replace hw := hw.1 (c8)
        exact tw_vret E hr hlocks hT hS hw dX5_eight_40
      · replace hw := hw.2 (c8)
        refine lv_aload_n E.1 E.2.1 dX5_eight_7 rfl (lv_at hl 0 rfl) ?_
        refine tw_get E hK hT 0 (Nat.le_of_ble_eq_true rfl) q1810 rfl (v := .ref (ta 0)) rfl dX5_eight_8 ?_
        refine lv_aload_n E.1 E.2.1 dX5_eight_11 rfl (lv_at hl 0 rfl) ?_
        refine tw_get E hK hT 1 (Nat.le_of_ble_eq_true rfl) q1811 rfl (v := .int (sx z3 1)) rfl dX5_eight_12 ?_
        refine lv_lload_n E.1 E.2.1 dX5_eight_15 rfl (lv_at hl 1 rfl) ?_
        refine lv_iload_n E.1 E.2.1 dX5_eight_16 rfl (lv_at hl 2 rfl) ?_
        refine lv_lshr E.1 E.2.1 dX5_eight_17 rfl ?_
        refine lv_l2i E.1 E.2.1 dX5_eight_18 rfl ?_
        refine lv_sipush (v := nI 255) E.1 E.2.1 dX5_eight_19 rfl ?_
        refine lv_iand E.1 E.2.1 dX5_eight_22 ?_
        obtain ⟨hin, hw⟩ := hw
        refine tw_iast E hK hT hS 0 rfl hin dX5_eight_23 (fun H locs hT hS => ?_)
        obtain ⟨z9, ez9⟩ : ∃ y, y = uf z3 0 (sx z3 1).toNatClampNeg (((j1 >>> (x6.toInt64 &&& 63)).toInt32) &&& (nI 255)) := ⟨_, rfl⟩
        rw [← ez9] at hT
        replace hw := hw z9 ez9
        refine lv_aload_n E.1 E.2.1 dX5_eight_24 rfl (lv_at hl 0 rfl) ?_
        refine lv_dup E.1 E.2.1 dX5_eight_25 rfl ?_
        refine tw_get E hK hT 1 (Nat.le_of_ble_eq_true rfl) q1811 rfl (v := .int (sx z9 1)) rfl dX5_eight_26 ?_
        refine lv_iconst (v := nI 1) E.1 E.2.1 dX5_eight_29 rfl ?_
        refine lv_iadd E.1 E.2.1 dX5_eight_30 ?_
        refine tw_puti E hK hT hS 1 (Nat.le_of_ble_eq_true rfl) q1811 rfl rfl rfl rfl dX5_eight_31 (fun H locs hT hS => ?_)
        obtain ⟨z10, ez10⟩ : ∃ y, y = ux z9 1 ((sx z9 1) + (nI 1)) := ⟨_, rfl⟩
        rw [← ez10] at hT
        replace hw := hw z10 ez10
        refine lv_iinc (k := 2) (v := x6 + (-8)) (lv' := [(3, .int (x6 + (-8))), (0, .ref (ta 73)), (1, .long (j1))]) E.1 E.2.1 dX5_eight_34 hl rfl rfl (Nat.le_of_ble_eq_true rfl) rfl (fun ls hl => ?_)
        refine lv_goto (tgt := 3) E.1 E.2.1 dX5_eight_37 (by decide) ?_
        obtain ⟨n11, hnn11, hin11⟩ := hw
        exact ih4 n11 hnn11 _ _ hin11 _ _ _ hT hS (lv_sub hl [1, 2, 0] rfl)
  exact L5 n7 _ _ hi13 _ _ _ hT hS (lv_sub hl [1, 2, 0] rfl)
/-- feed(JJJ)I -/
def wp_feed (post : Int32 → TS → Prop) (z0 : TS) (j1 : Int64) (j3 : Int64) (j5 : Int64) : Prop := ∀ z1, z1 = ux z0 2 (nI 0) → (((sx z1 1) + (nI 24)) ≤ (nI 936) → wp_eight (fun z3 => wp_eight (fun z4 => wp_eight (fun z5 => post (sx z5 1) z5) z4 j5) z3 j3) z1 j1) ∧ (¬ ((sx z1 1) + (nI 24)) ≤ (nI 936) → post ((-1)) z1)
theorem hd_feed : yX5_feed.cls = RX5 ∧ yX5_feed.cls ≠ "java/lang/invoke/MethodHandle" ∧ yX5_feed.cls ≠ "java/lang/invoke/VarHandle" ∧ (parseMethodDescriptor yX5_feed.desc).map (fun d => d.parameters.length) = some 3 := by decide +kernel
set_option maxHeartbeats 4000000 in
theorem met_feed (l : Launch) (G : GP) (ta : Nat → Nat) (d : Nat) {post : Int32 → TS → Prop} {z0 : TS} {j1 : Int64} {j3 : Int64} {j5 : Int64} (hw : wp_feed post z0 j1 j3 j5) : Met l yX5_feed (ws_ yX5_feed cX5_feed 7 (some .int)) (rmd (d + 1) 0 0) (tPc G ta z0 [.ref (ta 73), .long (j1), .long (j3), .long (j5)]) (tQi G ta post) 0 0 (TA ta) := by
  unfold wp_feed at hw
  refine tw_met (by decide) rfl (Nat.le_of_ble_eq_true rfl) ?_
  intro p e s m args below meth c ls E hr hlocks hK hT hS hl
  replace hl : lv_has ls 7 [(0, .ref (ta 73)), (1, .long (j1)), (3, .long (j3)), (5, .long (j5))] := hl
  refine lv_aload_n E.1 E.2.1 dX5_feed_0 rfl (lv_at hl 0 rfl) ?_
  refine lv_iconst (v := nI 0) E.1 E.2.1 dX5_feed_1 rfl ?_
  refine tw_puti E hK hT hS 2 (Nat.le_of_ble_eq_true rfl) q1812 rfl rfl rfl rfl dX5_feed_2 (fun H locs hT hS => ?_)
  obtain ⟨z1, ez1⟩ : ∃ y, y = ux z0 2 (nI 0) := ⟨_, rfl⟩
  rw [← ez1] at hT
  replace hw := hw z1 ez1
  refine lv_aload_n E.1 E.2.1 dX5_feed_5 rfl (lv_at hl 0 rfl) ?_
  refine tw_get E hK hT 1 (Nat.le_of_ble_eq_true rfl) q1811 rfl (v := .int (sx z1 1)) rfl dX5_feed_6 ?_
  refine lv_bipush (v := nI 24) E.1 E.2.1 dX5_feed_9 rfl ?_
  refine lv_iadd E.1 E.2.1 dX5_feed_11 ?_
  refine lv_sipush (v := nI 936) E.1 E.2.1 dX5_feed_12 rfl ?_
  refine lv_icmp_le (tgt := 20) E.1 E.2.1 dX5_feed_15 (by decide) (fun c2 => ?_) (fun c2 => ?_)
  · replace hw := hw.1 (c2)
    refine lv_aload_n E.1 E.2.1 dX5_feed_20 rfl (lv_at hl 0 rfl) ?_
    refine lv_lload_n E.1 E.2.1 dX5_feed_21 rfl (lv_at hl 1 rfl) ?_
    refine tw_callVv E hK hT hS (As := [.long (j1)]) (rest := []) (met_eight l G ta (d) hw) (cwV 1 E.2.2.2.2 (lw_V q2040 q2042 qs58 q128 q2043) rfl rfl rfl hd_eight (rm_ok (by omega) (by decide))) rfl rfl hl.1 (Nat.le_of_ble_eq_true rfl) dX5_feed_22 (fun z3 H locs hw hT hS => ?_)
    refine lv_aload_n E.1 E.2.1 dX5_feed_25 rfl (lv_at hl 0 rfl) ?_
    refine lv_lload_n E.1 E.2.1 dX5_feed_26 rfl (lv_at hl 2 rfl) ?_
    refine tw_callVv E hK hT hS (As := [.long (j3)]) (rest := []) (met_eight l G ta (d) hw) (cwV 1 E.2.2.2.2 (lw_V q2040 q2042 qs58 q128 q2043) rfl rfl rfl hd_eight (rm_ok (by omega) (by decide))) rfl rfl hl.1 (Nat.le_of_ble_eq_true rfl) dX5_feed_27 (fun z4 H locs hw hT hS => ?_)
    refine lv_aload_n E.1 E.2.1 dX5_feed_30 rfl (lv_at hl 0 rfl) ?_
    refine lv_lload E.1 E.2.1 dX5_feed_31 (lv_at hl 3 rfl) ?_
    refine tw_callVv E hK hT hS (As := [.long (j5)]) (rest := []) (met_eight l G ta (d) hw) (cwV 1 E.2.2.2.2 (lw_V q2040 q2042 qs58 q128 q2043) rfl rfl rfl hd_eight (rm_ok (by omega) (by decide))) rfl rfl hl.1 (Nat.le_of_ble_eq_true rfl) dX5_feed_33 (fun z5 H locs hw hT hS => ?_)
    refine lv_aload_n E.1 E.2.1 dX5_feed_36 rfl (lv_at hl 0 rfl) ?_
    refine tw_get E hK hT 1 (Nat.le_of_ble_eq_true rfl) q1811 rfl (v := .int (sx z5 1)) rfl dX5_feed_37 ?_
    exact tw_ireti E hr hlocks hT hS hw dX5_feed_40
  · replace hw := hw.2 (c2)
    refine lv_iconst (v := (-1)) E.1 E.2.1 dX5_feed_18 rfl ?_
    exact tw_ireti E hr hlocks hT hS hw dX5_feed_19
/-- within(III)Z -/
def wp_within (post : Bool → TS → Prop) (z0 : TS) (i0 : Int32) (i1 : Int32) (i2 : Int32) : Prop := (i0 < i1 → post false z0) ∧ (¬ i0 < i1 → (i2 < i0 → post false z0) ∧ (¬ i2 < i0 → post true z0))
theorem hs_within : yX5_within.cls ≠ "java/lang/invoke/MethodHandle" ∧ yX5_within.cls ≠ "java/lang/invoke/VarHandle" ∧ (parseMethodDescriptor yX5_within.desc).map (fun d => d.parameters.length) = some 3 := by decide +kernel
set_option maxHeartbeats 4000000 in
theorem met_within (l : Launch) (G : GP) (ta : Nat → Nat) (d : Nat) {post : Bool → TS → Prop} {z0 : TS} {i0 : Int32} {i1 : Int32} {i2 : Int32} (hw : wp_within post z0 i0 i1 i2) : Met l yX5_within (ws_ yX5_within cX5_within 3 (some .boolean)) (rmd (d + 0) 0 0) (tPc G ta z0 [.int (i0), .int (i1), .int (i2)]) (tQz G ta post) 0 0 (TA ta) := by
  unfold wp_within at hw
  refine tw_met (by decide) rfl (Nat.le_of_ble_eq_true rfl) ?_
  intro p e s m args below meth c ls E hr hlocks hK hT hS hl
  replace hl : lv_has ls 3 [(0, .int (i0)), (1, .int (i1)), (2, .int (i2))] := hl
  refine lv_iload_n E.1 E.2.1 dX5_within_0 rfl (lv_at hl 0 rfl) ?_
  refine lv_iload_n E.1 E.2.1 dX5_within_1 rfl (lv_at hl 1 rfl) ?_
  refine lv_icmp_lt (tgt := 14) E.1 E.2.1 dX5_within_2 (by decide) (fun c1 => ?_) (fun c1 => ?_)
  · replace hw := hw.1 (c1)
    refine lv_iconst (v := nI 0) E.1 E.2.1 dX5_within_14 rfl ?_
    exact tw_iretz (b := false) E hr hlocks hT hS rfl hw dX5_within_15
  · replace hw := hw.2 (c1)
    refine lv_iload_n E.1 E.2.1 dX5_within_5 rfl (lv_at hl 0 rfl) ?_
    refine lv_iload_n E.1 E.2.1 dX5_within_6 rfl (lv_at hl 2 rfl) ?_
    refine lv_icmp_gt (tgt := 14) E.1 E.2.1 dX5_within_7 (by decide) (fun c2 => ?_) (fun c2 => ?_)
    · replace hw := hw.1 (c2)
      refine lv_iconst (v := nI 0) E.1 E.2.1 dX5_within_14 rfl ?_
      exact tw_iretz (b := false) E hr hlocks hT hS rfl hw dX5_within_15
    · replace hw := hw.2 (c2)
      refine lv_iconst (v := nI 1) E.1 E.2.1 dX5_within_10 rfl ?_
      refine lv_goto (tgt := 15) E.1 E.2.1 dX5_within_11 (by decide) ?_
      exact tw_iretz (b := true) E hr hlocks hT hS rfl hw dX5_within_15
/-- end(I)I -/
def wp_end (post : Int32 → TS → Prop) (z0 : TS) (i1 : Int32) : Prop := ∀ z1, z1 = ux z0 2 (nI 0) → wp_within (fun b3 z2 => (b3 = true → ∀ z5, z5 = ux z2 1 i1 → post i1 z5) ∧ (b3 = false → post ((-1)) z2)) z1 i1 (nI 0) (sx z1 1)
theorem hd_end : yX5_end.cls = RX5 ∧ yX5_end.cls ≠ "java/lang/invoke/MethodHandle" ∧ yX5_end.cls ≠ "java/lang/invoke/VarHandle" ∧ (parseMethodDescriptor yX5_end.desc).map (fun d => d.parameters.length) = some 1 := by decide +kernel
set_option maxHeartbeats 4000000 in
theorem met_end (l : Launch) (G : GP) (ta : Nat → Nat) (d : Nat) {post : Int32 → TS → Prop} {z0 : TS} {i1 : Int32} (hw : wp_end post z0 i1) : Met l yX5_end (ws_ yX5_end cX5_end 2 (some .int)) (rmd (d + 1) 0 0) (tPc G ta z0 [.ref (ta 73), .int (i1)]) (tQi G ta post) 0 0 (TA ta) := by
  unfold wp_end at hw
  refine tw_met (by decide) rfl (Nat.le_of_ble_eq_true rfl) ?_
  intro p e s m args below meth c ls E hr hlocks hK hT hS hl
  replace hl : lv_has ls 2 [(0, .ref (ta 73)), (1, .int (i1))] := hl
  refine lv_aload_n E.1 E.2.1 dX5_end_0 rfl (lv_at hl 0 rfl) ?_
  refine lv_iconst (v := nI 0) E.1 E.2.1 dX5_end_1 rfl ?_
  refine tw_puti E hK hT hS 2 (Nat.le_of_ble_eq_true rfl) q1812 rfl rfl rfl rfl dX5_end_2 (fun H locs hT hS => ?_)
  obtain ⟨z1, ez1⟩ : ∃ y, y = ux z0 2 (nI 0) := ⟨_, rfl⟩
  rw [← ez1] at hT
  replace hw := hw z1 ez1
  refine lv_iload_n E.1 E.2.1 dX5_end_5 rfl (lv_at hl 1 rfl) ?_
  refine lv_iconst (v := nI 0) E.1 E.2.1 dX5_end_6 rfl ?_
  refine lv_aload_n E.1 E.2.1 dX5_end_7 rfl (lv_at hl 0 rfl) ?_
  refine tw_get E hK hT 1 (Nat.le_of_ble_eq_true rfl) q1811 rfl (v := .int (sx z1 1)) rfl dX5_end_8 ?_
  refine tw_callSz E hK hT hS (As := [.int (i1), .int (nI 0), .int (sx z1 1)]) (rest := []) (met_within l G ta (d) hw) (va_cwS 3 E.2.2.2.2 (lw_S q2048 q2049 q128 q2050) rfl rfl rfl hs_within (rm_ok (by omega) (by decide))) rfl rfl hl.1 (Nat.le_of_ble_eq_true rfl) dX5_end_11 (fun b3 z2 H locs hw hT hS => ?_)
  refine lv_if_ne (tgt := 19) E.1 E.2.1 dX5_end_14 (by decide) (fun c4 => ?_) (fun c4 => ?_)
  · replace hw := hw.1 (bi_n c4)
    refine lv_aload_n E.1 E.2.1 dX5_end_19 rfl (lv_at hl 0 rfl) ?_
    refine lv_iload_n E.1 E.2.1 dX5_end_20 rfl (lv_at hl 1 rfl) ?_
    refine tw_puti E hK hT hS 1 (Nat.le_of_ble_eq_true rfl) q1811 rfl rfl rfl rfl dX5_end_21 (fun H locs hT hS => ?_)
    obtain ⟨z5, ez5⟩ : ∃ y, y = ux z2 1 i1 := ⟨_, rfl⟩
    rw [← ez5] at hT
    replace hw := hw z5 ez5
    refine lv_iload_n E.1 E.2.1 dX5_end_24 rfl (lv_at hl 1 rfl) ?_
    exact tw_ireti E hr hlocks hT hS hw dX5_end_25
  · replace hw := hw.2 (bi_z c4)
    refine lv_iconst (v := (-1)) E.1 E.2.1 dX5_end_17 rfl ?_
    exact tw_ireti E hr hlocks hT hS hw dX5_end_18
/-- chapters(I)I -/
def wp_chapters (post : Int32 → TS → Prop) (z0 : TS) (i1 : Int32) : Prop := vp_in ((nI 7) * i1) 21 ∧ post (sf z0 3 ((nI 7) * i1).toNatClampNeg) z0
theorem hd_chapters : yX5_chapters.cls = RX5 ∧ yX5_chapters.cls ≠ "java/lang/invoke/MethodHandle" ∧ yX5_chapters.cls ≠ "java/lang/invoke/VarHandle" ∧ (parseMethodDescriptor yX5_chapters.desc).map (fun d => d.parameters.length) = some 1 := by decide +kernel
set_option maxHeartbeats 4000000 in
theorem met_chapters (l : Launch) (G : GP) (ta : Nat → Nat) (d : Nat) {post : Int32 → TS → Prop} {z0 : TS} {i1 : Int32} (hw : wp_chapters post z0 i1) : Met l yX5_chapters (ws_ yX5_chapters cX5_chapters 2 (some .int)) (rmd (d + 0) 0 0) (tPc G ta z0 [.ref (ta 73), .int (i1)]) (tQi G ta post) 0 0 (TA ta) := by
  unfold wp_chapters at hw
  refine tw_met (by decide) rfl (Nat.le_of_ble_eq_true rfl) ?_
  intro p e s m args below meth c ls E hr hlocks hK hT hS hl
  replace hl : lv_has ls 2 [(0, .ref (ta 73)), (1, .int (i1))] := hl
  refine lv_aload_n E.1 E.2.1 dX5_chapters_0 rfl (lv_at hl 0 rfl) ?_
  refine tw_get E hK hT 3 (Nat.le_of_ble_eq_true rfl) q1813 rfl (v := .ref (ta 3)) rfl dX5_chapters_1 ?_
  refine lv_bipush (v := nI 7) E.1 E.2.1 dX5_chapters_4 rfl ?_
  refine lv_iload_n E.1 E.2.1 dX5_chapters_6 rfl (lv_at hl 1 rfl) ?_
  refine lv_imul E.1 E.2.1 dX5_chapters_7 ?_
  obtain ⟨hin, hw⟩ := hw
  refine tw_iald E hK hT 3 rfl hin dX5_chapters_8 ?_
  exact tw_ireti E hr hlocks hT hS hw dX5_chapters_9
/-- chapterOf(J)I -/
def wp_chapterOf (post : Int32 → TS → Prop) (z0 : TS) (j1 : Int64) : Prop := ∃ I1 : Nat → TS → Int32 → Prop, (∃ n7, I1 n7 z0 (nI 0)) ∧ ∀ (n2 : Nat) (z3 : TS) (x6 : Int32), I1 n2 z3 x6 → wp_chapters (fun r9 z8 => (r9 ≤ x6 → post ((-1)) z8) ∧ (¬ r9 ≤ x6 → vp_in (((nI 6) * (sx z8 31)) + x6) 18 ∧ (¬ (sg z8 4 (((nI 6) * (sx z8 31)) + x6).toNatClampNeg) = j1 → ∃ n12, n12 < n2 ∧ I1 n12 z8 (x6 + nI 1)) ∧ ((sg z8 4 (((nI 6) * (sx z8 31)) + x6).toNatClampNeg) = j1 → post x6 z8))) z3 (sx z3 31)
theorem hd_chapterOf : yX5_chapterOf.cls = RX5 ∧ yX5_chapterOf.cls ≠ "java/lang/invoke/MethodHandle" ∧ yX5_chapterOf.cls ≠ "java/lang/invoke/VarHandle" ∧ (parseMethodDescriptor yX5_chapterOf.desc).map (fun d => d.parameters.length) = some 1 := by decide +kernel
set_option maxHeartbeats 4000000 in
theorem met_chapterOf (l : Launch) (G : GP) (ta : Nat → Nat) (d : Nat) {post : Int32 → TS → Prop} {z0 : TS} {j1 : Int64} (hw : wp_chapterOf post z0 j1) : Met l yX5_chapterOf (ws_ yX5_chapterOf cX5_chapterOf 4 (some .int)) (rmd (d + 1) 0 0) (tPc G ta z0 [.ref (ta 73), .long (j1)]) (tQi G ta post) 0 0 (TA ta) := by
  unfold wp_chapterOf at hw
  refine tw_met (by decide) rfl (Nat.le_of_ble_eq_true rfl) ?_
  intro p e s m args below meth c ls E hr hlocks hK hT hS hl
  replace hl : lv_has ls 4 [(0, .ref (ta 73)), (1, .long (j1))] := hl
  refine lv_iconst (v := nI 0) E.1 E.2.1 dX5_chapterOf_0 rfl ?_
  refine lv_istore_n (lv' := [(3, .int (nI 0)), (0, .ref (ta 73)), (1, .long (j1))]) E.1 E.2.1 dX5_chapterOf_1 rfl hl (Nat.le_of_ble_eq_true rfl) rfl (fun ls hl => ?_)
  obtain ⟨I1, ⟨n7, hi14⟩, hb13⟩ := hw
  have L5 : ∀ (n2 : Nat) (z3 : TS) (x6 : Int32), I1 n2 z3 x6 → ∀ (H : Heap) (locs : List Loc) (ls : Array Slot), TW G ta z3 H → va_S (TA ta) s.heap H locs → lv_has ls 4 [(0, .ref (ta 73)), (1, .long (j1)), (3, .int (x6))] → W p l e (rmd (d + 1) 0 0) s m args below meth c H locs 0 0 (MQ below (tQi G ta post) args s 0 0 (TA ta)) (F0 m 2 ls []) := by
    intro n2
    induction n2 using Nat.strongRecOn with
    | _ n2 ih4 =>
      intro z3 x6 hw H locs ls hT hS hl
      replace hw := hb13 n2 z3 x6 hw
      refine lv_iload_n E.1 E.2.1 dX5_chapterOf_2 rfl (lv_at hl 2 rfl) ?_
      refine lv_aload_n E.1 E.2.1 dX5_chapterOf_3 rfl (lv_at hl 0 rfl) ?_
      refine lv_aload_n E.1 E.2.1 dX5_chapterOf_4 rfl (lv_at hl 0 rfl) ?_
      refine tw_get E hK hT 31 (Nat.le_of_ble_eq_true rfl) q1841 rfl (v := .int (sx z3 31)) rfl dX5_chapterOf_5 ?_
      refine tw_callVi E hK hT hS (As := [.int (sx z3 31)]) (rest := [.int (x6)]) (met_chapters l G ta (d) hw) (cwV 1 E.2.2.2.2 (lw_V q2109 q2111 qs65 q128 q2112) rfl rfl rfl hd_chapters (rm_ok (by omega) (by decide))) rfl rfl hl.1 (Nat.le_of_ble_eq_true rfl) dX5_chapterOf_8 (fun r9 z8 H locs hw hT hS => ?_)
      refine lv_icmp_ge (tgt := 41) E.1 E.2.1 dX5_chapterOf_11 (by decide) (fun c10 => ?_) (fun c10 => ?_)
      · replace hw := hw.1 (c10)
        refine lv_iconst (v := (-1)) E.1 E.2.1 dX5_chapterOf_41 rfl ?_
        exact tw_ireti E hr hlocks hT hS hw dX5_chapterOf_42
      · replace hw := hw.2 (c10)
        refine lv_aload_n E.1 E.2.1 dX5_chapterOf_14 rfl (lv_at hl 0 rfl) ?_
        refine tw_get E hK hT 4 (Nat.le_of_ble_eq_true rfl) q1814 rfl (v := .ref (ta 4)) rfl dX5_chapterOf_15 ?_
        refine lv_bipush (v := nI 6) E.1 E.2.1 dX5_chapterOf_18 rfl ?_
        refine lv_aload_n E.1 E.2.1 dX5_chapterOf_20 rfl (lv_at hl 0 rfl) ?_
        refine tw_get E hK hT 31 (Nat.le_of_ble_eq_true rfl) q1841 rfl (v := .int (sx z8 31)) rfl dX5_chapterOf_21 ?_
        refine lv_imul E.1 E.2.1 dX5_chapterOf_24 ?_
        refine lv_iload_n E.1 E.2.1 dX5_chapterOf_25 rfl (lv_at hl 2 rfl) ?_
        refine lv_iadd E.1 E.2.1 dX5_chapterOf_26 ?_
        obtain ⟨hin, hw⟩ := hw
        refine tw_lald E hK hT 4 rfl rfl hin dX5_chapterOf_27 ?_
        refine lv_lload_n E.1 E.2.1 dX5_chapterOf_28 rfl (lv_at hl 1 rfl) ?_
        refine W.lcmp E.1 E.2.1 dX5_chapterOf_29 ?_
        refine lv_if_ne (tgt := 35) E.1 E.2.1 dX5_chapterOf_30 (by decide) (fun c11 => ?_) (fun c11 => ?_)
        · replace hw := hw.1 (fun h => c11 ((lg_cmp_eq _ _).mpr h))
          refine lv_iinc (k := 2) (v := x6 + nI 1) (lv' := [(3, .int (x6 + nI 1)), (0, .ref (ta 73)), (1, .long (j1))]) E.1 E.2.1 dX5_chapterOf_35 hl rfl rfl (Nat.le_of_ble_eq_true rfl) rfl (fun ls hl => ?_)
          refine lv_goto (tgt := 2) E.1 E.2.1 dX5_chapterOf_38 (by decide) ?_
          obtain ⟨n12, hnn12, hin12⟩ := hw
          exact ih4 n12 hnn12 _ _ hin12 _ _ _ hT hS (lv_sub hl [1, 2, 0] rfl)
        · replace hw := hw.2 ((lg_cmp_eq _ _).mp c11)
          refine lv_iload_n E.1 E.2.1 dX5_chapterOf_33 rfl (lv_at hl 2 rfl) ?_
          exact tw_ireti E hr hlocks hT hS hw dX5_chapterOf_34
  exact L5 n7 _ _ hi14 _ _ _ hT hS (lv_sub hl [1, 2, 0] rfl)
/-- isSign(I)Z -/
def wp_isSign (post : Bool → TS → Prop) (z0 : TS) (i1 : Int32) : Prop := (¬ (sx z0 48) = 0 → post false z0) ∧ ((sx z0 48) = 0 → (¬ (sx z0 45) = (nI 4) → post false z0) ∧ ((sx z0 45) = (nI 4) → (¬ (sx z0 47) = i1 → post false z0) ∧ ((sx z0 47) = i1 → post true z0)))
theorem hd_isSign : yX5_isSign.cls = RX5 ∧ yX5_isSign.cls ≠ "java/lang/invoke/MethodHandle" ∧ yX5_isSign.cls ≠ "java/lang/invoke/VarHandle" ∧ (parseMethodDescriptor yX5_isSign.desc).map (fun d => d.parameters.length) = some 1 := by decide +kernel
set_option maxHeartbeats 4000000 in
theorem met_isSign (l : Launch) (G : GP) (ta : Nat → Nat) (d : Nat) {post : Bool → TS → Prop} {z0 : TS} {i1 : Int32} (hw : wp_isSign post z0 i1) : Met l yX5_isSign (ws_ yX5_isSign cX5_isSign 2 (some .boolean)) (rmd (d + 0) 0 0) (tPc G ta z0 [.ref (ta 73), .int (i1)]) (tQz G ta post) 0 0 (TA ta) := by
  unfold wp_isSign at hw
  refine tw_met (by decide) rfl (Nat.le_of_ble_eq_true rfl) ?_
  intro p e s m args below meth c ls E hr hlocks hK hT hS hl
  replace hl : lv_has ls 2 [(0, .ref (ta 73)), (1, .int (i1))] := hl
  refine lv_aload_n E.1 E.2.1 dX5_isSign_0 rfl (lv_at hl 0 rfl) ?_
  refine tw_get E hK hT 48 (Nat.le_of_ble_eq_true rfl) q1858 rfl (v := .int (sx z0 48)) rfl dX5_isSign_1 ?_
  refine lv_if_ne (tgt := 27) E.1 E.2.1 dX5_isSign_4 (by decide) (fun c1 => ?_) (fun c1 => ?_)
  · replace hw := hw.1 (c1)
    refine lv_iconst (v := nI 0) E.1 E.2.1 dX5_isSign_27 rfl ?_
    exact tw_iretz (b := false) E hr hlocks hT hS rfl hw dX5_isSign_28
  · replace hw := hw.2 (c1)
    refine lv_aload_n E.1 E.2.1 dX5_isSign_7 rfl (lv_at hl 0 rfl) ?_
    refine tw_get E hK hT 45 (Nat.le_of_ble_eq_true rfl) q1855 rfl (v := .int (sx z0 45)) rfl dX5_isSign_8 ?_
    refine lv_iconst (v := nI 4) E.1 E.2.1 dX5_isSign_11 rfl ?_
    refine lv_icmp_ne (tgt := 27) E.1 E.2.1 dX5_isSign_12 (by decide) (fun c2 => ?_) (fun c2 => ?_)
    · replace hw := hw.1 (c2)
      refine lv_iconst (v := nI 0) E.1 E.2.1 dX5_isSign_27 rfl ?_
      exact tw_iretz (b := false) E hr hlocks hT hS rfl hw dX5_isSign_28
    · replace hw := hw.2 (c2)
      refine lv_aload_n E.1 E.2.1 dX5_isSign_15 rfl (lv_at hl 0 rfl) ?_
      refine tw_get E hK hT 47 (Nat.le_of_ble_eq_true rfl) q1857 rfl (v := .int (sx z0 47)) rfl dX5_isSign_16 ?_
      refine lv_iload_n E.1 E.2.1 dX5_isSign_19 rfl (lv_at hl 1 rfl) ?_
      refine lv_icmp_ne (tgt := 27) E.1 E.2.1 dX5_isSign_20 (by decide) (fun c3 => ?_) (fun c3 => ?_)
      · replace hw := hw.1 (c3)
        refine lv_iconst (v := nI 0) E.1 E.2.1 dX5_isSign_27 rfl ?_
        exact tw_iretz (b := false) E hr hlocks hT hS rfl hw dX5_isSign_28
      · replace hw := hw.2 (c3)
        refine lv_iconst (v := nI 1) E.1 E.2.1 dX5_isSign_23 rfl ?_
        refine lv_goto (tgt := 28) E.1 E.2.1 dX5_isSign_24 (by decide) ?_
        exact tw_iretz (b := true) E hr hlocks hT hS rfl hw dX5_isSign_28
/-- wrongAt(II)V -/
def wp_wrongAt (post : TS → Prop) (z0 : TS) (i1 : Int32) (i2 : Int32) : Prop := (¬ (sx z0 48) = 0 → post z0) ∧ ((sx z0 48) = 0 → ∀ z2, z2 = ux z0 48 (((nI 8) * i2) + i1) → post z2)
theorem hd_wrongAt : yX5_wrongAt.cls = RX5 ∧ yX5_wrongAt.cls ≠ "java/lang/invoke/MethodHandle" ∧ yX5_wrongAt.cls ≠ "java/lang/invoke/VarHandle" ∧ (parseMethodDescriptor yX5_wrongAt.desc).map (fun d => d.parameters.length) = some 2 := by decide +kernel
set_option maxHeartbeats 4000000 in
theorem met_wrongAt (l : Launch) (G : GP) (ta : Nat → Nat) (d : Nat) {post : TS → Prop} {z0 : TS} {i1 : Int32} {i2 : Int32} (hw : wp_wrongAt post z0 i1 i2) : Met l yX5_wrongAt (ws_ yX5_wrongAt cX5_wrongAt 3 none) (rmd (d + 0) 0 0) (tPc G ta z0 [.ref (ta 73), .int (i1), .int (i2)]) (tQv G ta post) 0 0 (TA ta) := by
  unfold wp_wrongAt at hw
  refine tw_met (by decide) rfl (Nat.le_of_ble_eq_true rfl) ?_
  intro p e s m args below meth c ls E hr hlocks hK hT hS hl
  replace hl : lv_has ls 3 [(0, .ref (ta 73)), (1, .int (i1)), (2, .int (i2))] := hl
  refine lv_aload_n E.1 E.2.1 dX5_wrongAt_0 rfl (lv_at hl 0 rfl) ?_
  refine tw_get E hK hT 48 (Nat.le_of_ble_eq_true rfl) q1858 rfl (v := .int (sx z0 48)) rfl dX5_wrongAt_1 ?_
  refine lv_if_ne (tgt := 17) E.1 E.2.1 dX5_wrongAt_4 (by decide) (fun c1 => ?_) (fun c1 => ?_)
  · replace hw := hw.1 (c1)
    exact tw_vret E hr hlocks hT hS hw dX5_wrongAt_17
  · replace hw := hw.2 (c1)
    refine lv_aload_n E.1 E.2.1 dX5_wrongAt_7 rfl (lv_at hl 0 rfl) ?_
    refine lv_bipush (v := nI 8) E.1 E.2.1 dX5_wrongAt_8 rfl ?_
    refine lv_iload_n E.1 E.2.1 dX5_wrongAt_10 rfl (lv_at hl 2 rfl) ?_
    refine lv_imul E.1 E.2.1 dX5_wrongAt_11 ?_
    refine lv_iload_n E.1 E.2.1 dX5_wrongAt_12 rfl (lv_at hl 1 rfl) ?_
    refine lv_iadd E.1 E.2.1 dX5_wrongAt_13 ?_
    refine tw_puti E hK hT hS 48 (Nat.le_of_ble_eq_true rfl) q1858 rfl rfl rfl rfl dX5_wrongAt_14 (fun H locs hT hS => ?_)
    obtain ⟨z2, ez2⟩ : ∃ y, y = ux z0 48 (((nI 8) * i2) + i1) := ⟨_, rfl⟩
    rw [← ez2] at hT
    replace hw := hw z2 ez2
    exact tw_vret E hr hlocks hT hS hw dX5_wrongAt_17
/-- wrong(I)V -/
def wp_wrong (post : TS → Prop) (z0 : TS) (i1 : Int32) : Prop := wp_wrongAt (fun z1 => post z1) z0 i1 (sx z0 43)
theorem hd_wrong : yX5_wrong.cls = RX5 ∧ yX5_wrong.cls ≠ "java/lang/invoke/MethodHandle" ∧ yX5_wrong.cls ≠ "java/lang/invoke/VarHandle" ∧ (parseMethodDescriptor yX5_wrong.desc).map (fun d => d.parameters.length) = some 1 := by decide +kernel
set_option maxHeartbeats 4000000 in
theorem met_wrong (l : Launch) (G : GP) (ta : Nat → Nat) (d : Nat) {post : TS → Prop} {z0 : TS} {i1 : Int32} (hw : wp_wrong post z0 i1) : Met l yX5_wrong (ws_ yX5_wrong cX5_wrong 2 none) (rmd (d + 1) 0 0) (tPc G ta z0 [.ref (ta 73), .int (i1)]) (tQv G ta post) 0 0 (TA ta) := by
  unfold wp_wrong at hw
  refine tw_met (by decide) rfl (Nat.le_of_ble_eq_true rfl) ?_
  intro p e s m args below meth c ls E hr hlocks hK hT hS hl
  replace hl : lv_has ls 2 [(0, .ref (ta 73)), (1, .int (i1))] := hl
  refine lv_aload_n E.1 E.2.1 dX5_wrong_0 rfl (lv_at hl 0 rfl) ?_
  refine lv_iload_n E.1 E.2.1 dX5_wrong_1 rfl (lv_at hl 1 rfl) ?_
  refine lv_aload_n E.1 E.2.1 dX5_wrong_2 rfl (lv_at hl 0 rfl) ?_
  refine tw_get E hK hT 43 (Nat.le_of_ble_eq_true rfl) q1853 rfl (v := .int (sx z0 43)) rfl dX5_wrong_3 ?_
  refine tw_callVv E hK hT hS (As := [.int (i1), .int (sx z0 43)]) (rest := []) (met_wrongAt l G ta (d) hw) (cwV 2 E.2.2.2.2 (lw_V q2117 q2119 qs67 q128 q2120) rfl rfl rfl hd_wrongAt (rm_ok (by omega) (by decide))) rfl rfl hl.1 (Nat.le_of_ble_eq_true rfl) dX5_wrong_6 (fun z1 H locs hw hT hS => ?_)
  exact tw_vret E hr hlocks hT hS hw dX5_wrong_9
/-- lineEnds()V -/
def wp_lineEnds (post : TS → Prop) (z0 : TS) : Prop := (¬ (sx z0 48) = 0 → post z0) ∧ ((sx z0 48) = 0 → wp_isSign (fun b3 z2 => (b3 = true → post z2) ∧ (b3 = false → wp_wrong (fun z5 => post z5) z2 (nI 1))) z0 (nI 59))
theorem hd_lineEnds : yX5_lineEnds.cls = RX5 ∧ yX5_lineEnds.cls ≠ "java/lang/invoke/MethodHandle" ∧ yX5_lineEnds.cls ≠ "java/lang/invoke/VarHandle" ∧ (parseMethodDescriptor yX5_lineEnds.desc).map (fun d => d.parameters.length) = some 0 := by decide +kernel
set_option maxHeartbeats 4000000 in
theorem met_lineEnds (l : Launch) (G : GP) (ta : Nat → Nat) (d : Nat) {post : TS → Prop} {z0 : TS} (hw : wp_lineEnds post z0) : Met l yX5_lineEnds (ws_ yX5_lineEnds cX5_lineEnds 1 none) (rmd (d + 2) 0 0) (tPc G ta z0 [.ref (ta 73)]) (tQv G ta post) 0 0 (TA ta) := by
  unfold wp_lineEnds at hw
  refine tw_met (by decide) rfl (Nat.le_of_ble_eq_true rfl) ?_
  intro p e s m args below meth c ls E hr hlocks hK hT hS hl
  replace hl : lv_has ls 1 [(0, .ref (ta 73))] := hl
  refine lv_aload_n E.1 E.2.1 dX5_lineEnds_0 rfl (lv_at hl 0 rfl) ?_
  refine tw_get E hK hT 48 (Nat.le_of_ble_eq_true rfl) q1858 rfl (v := .int (sx z0 48)) rfl dX5_lineEnds_1 ?_
  refine lv_if_ne (tgt := 21) E.1 E.2.1 dX5_lineEnds_4 (by decide) (fun c1 => ?_) (fun c1 => ?_)
  · replace hw := hw.1 (c1)
    exact tw_vret E hr hlocks hT hS hw dX5_lineEnds_21
  · replace hw := hw.2 (c1)
    refine lv_aload_n E.1 E.2.1 dX5_lineEnds_7 rfl (lv_at hl 0 rfl) ?_
    refine lv_bipush (v := nI 59) E.1 E.2.1 dX5_lineEnds_8 rfl ?_
    refine tw_callVz E hK hT hS (As := [.int (nI 59)]) (rest := []) (met_isSign l G ta (d + 1) hw) (cwV 1 E.2.2.2.2 (lw_V q2159 q2161 qs72 q128 q2162) rfl rfl rfl hd_isSign (rm_ok (by omega) (by decide))) rfl rfl hl.1 (Nat.le_of_ble_eq_true rfl) dX5_lineEnds_10 (fun b3 z2 H locs hw hT hS => ?_)
    refine lv_if_ne (tgt := 21) E.1 E.2.1 dX5_lineEnds_13 (by decide) (fun c4 => ?_) (fun c4 => ?_)
    · replace hw := hw.1 (bi_n c4)
      exact tw_vret E hr hlocks hT hS hw dX5_lineEnds_21
    · replace hw := hw.2 (bi_z c4)
      refine lv_aload_n E.1 E.2.1 dX5_lineEnds_16 rfl (lv_at hl 0 rfl) ?_
      refine lv_iconst (v := nI 1) E.1 E.2.1 dX5_lineEnds_17 rfl ?_
      refine tw_callVv E hK hT hS (As := [.int (nI 1)]) (rest := []) (met_wrong l G ta (d) hw) (cwV 1 E.2.2.2.2 (lw_V q2113 q2115 qs66 q128 q2116) rfl rfl rfl hd_wrong (rm_ok (by omega) (by decide))) rfl rfl hl.1 (Nat.le_of_ble_eq_true rfl) dX5_lineEnds_18 (fun z5 H locs hw hT hS => ?_)
      exact tw_vret E hr hlocks hT hS hw dX5_lineEnds_21
/-- isWord(Ljava/lang/String;)Z -/
def wp_isWord (post : Bool → TS → Prop) (z0 : TS) (k1 : Nat) : Prop := (¬ (sx z0 48) = 0 → post false z0) ∧ ((sx z0 48) = 0 → (¬ (sx z0 45) = (nI 2) → post false z0) ∧ ((sx z0 45) = (nI 2) → wp_packed (fun w4 z3 => (¬ (sw z0) = w4 → post false z3) ∧ ((sw z0) = w4 → post true z3)) z0 k1))
theorem hd_isWord : yX5_isWord.cls = RX5 ∧ yX5_isWord.cls ≠ "java/lang/invoke/MethodHandle" ∧ yX5_isWord.cls ≠ "java/lang/invoke/VarHandle" ∧ (parseMethodDescriptor yX5_isWord.desc).map (fun d => d.parameters.length) = some 1 := by decide +kernel
set_option maxHeartbeats 4000000 in
theorem met_isWord (l : Launch) (G : GP) (ta : Nat → Nat) (d : Nat) {post : Bool → TS → Prop} {z0 : TS} {k1 : Nat} (hw : wp_isWord post z0 k1) : Met l yX5_isWord (ws_ yX5_isWord cX5_isWord 2 (some .boolean)) (rmd (d + 7) 0 0) (tPc G ta z0 [.ref (ta 73), .ref (gK G k1)]) (tQz G ta post) 0 0 (TA ta) := by
  unfold wp_isWord at hw
  refine tw_met (by decide) rfl (Nat.le_of_ble_eq_true rfl) ?_
  intro p e s m args below meth c ls E hr hlocks hK hT hS hl
  replace hl : lv_has ls 2 [(0, .ref (ta 73)), (1, .ref (gK G k1))] := hl
  refine lv_aload_n E.1 E.2.1 dX5_isWord_0 rfl (lv_at hl 0 rfl) ?_
  refine tw_get E hK hT 48 (Nat.le_of_ble_eq_true rfl) q1858 rfl (v := .int (sx z0 48)) rfl dX5_isWord_1 ?_
  refine lv_if_ne (tgt := 31) E.1 E.2.1 dX5_isWord_4 (by decide) (fun c1 => ?_) (fun c1 => ?_)
  · replace hw := hw.1 (c1)
    refine lv_iconst (v := nI 0) E.1 E.2.1 dX5_isWord_31 rfl ?_
    exact tw_iretz (b := false) E hr hlocks hT hS rfl hw dX5_isWord_32
  · replace hw := hw.2 (c1)
    refine lv_aload_n E.1 E.2.1 dX5_isWord_7 rfl (lv_at hl 0 rfl) ?_
    refine tw_get E hK hT 45 (Nat.le_of_ble_eq_true rfl) q1855 rfl (v := .int (sx z0 45)) rfl dX5_isWord_8 ?_
    refine lv_iconst (v := nI 2) E.1 E.2.1 dX5_isWord_11 rfl ?_
    refine lv_icmp_ne (tgt := 31) E.1 E.2.1 dX5_isWord_12 (by decide) (fun c2 => ?_) (fun c2 => ?_)
    · replace hw := hw.1 (c2)
      refine lv_iconst (v := nI 0) E.1 E.2.1 dX5_isWord_31 rfl ?_
      exact tw_iretz (b := false) E hr hlocks hT hS rfl hw dX5_isWord_32
    · replace hw := hw.2 (c2)
      refine lv_aload_n E.1 E.2.1 dX5_isWord_15 rfl (lv_at hl 0 rfl) ?_
      refine tw_get E hK hT 46 (Nat.le_of_ble_eq_true rfl) q1856 rfl (v := .long (sw z0)) rfl dX5_isWord_16 ?_
      refine lv_aload_n E.1 E.2.1 dX5_isWord_19 rfl (lv_at hl 1 rfl) ?_
      refine tw_callSl E hK hT hS (As := [.ref (gK G k1)]) (rest := [.long (sw z0)]) (met_packed l G ta (d) hw) (va_cwS 1 E.2.2.2.2 (lw_S q2083 q2084 q128 q2085) rfl rfl rfl hs_packed (rm_ok (by omega) (by decide))) rfl rfl hl.1 (Nat.le_of_ble_eq_true rfl) dX5_isWord_20 (fun w4 z3 H locs hw hT hS => ?_)
      refine W.lcmp E.1 E.2.1 dX5_isWord_23 ?_
      refine lv_if_ne (tgt := 31) E.1 E.2.1 dX5_isWord_24 (by decide) (fun c5 => ?_) (fun c5 => ?_)
      · replace hw := hw.1 (fun h => c5 ((lg_cmp_eq _ _).mpr h))
        refine lv_iconst (v := nI 0) E.1 E.2.1 dX5_isWord_31 rfl ?_
        exact tw_iretz (b := false) E hr hlocks hT hS rfl hw dX5_isWord_32
      · replace hw := hw.2 ((lg_cmp_eq _ _).mp c5)
        refine lv_iconst (v := nI 1) E.1 E.2.1 dX5_isWord_27 rfl ?_
        refine lv_goto (tgt := 32) E.1 E.2.1 dX5_isWord_28 (by decide) ?_
        exact tw_iretz (b := true) E hr hlocks hT hS rfl hw dX5_isWord_32
/-- isTold()Z -/
def wp_isTold (post : Bool → TS → Prop) (z0 : TS) : Prop := wp_isWord (fun b2 z1 => (b2 = true → post true z1) ∧ (b2 = false → wp_isWord (fun b5 z4 => (b5 = true → post true z4) ∧ (b5 = false → wp_isWord (fun b8 z7 => (b8 = true → post true z7) ∧ (b8 = false → wp_isWord (fun b11 z10 => (b11 = true → post true z10) ∧ (b11 = false → wp_isWord (fun b14 z13 => (b14 = false → wp_isWord (fun b17 z16 => (b17 = true → post true z16) ∧ (b17 = false → wp_isWord (fun b20 z19 => (b20 = true → post true z19) ∧ (b20 = false → wp_isWord (fun b23 z22 => (b23 = true → post true z22) ∧ (b23 = false → wp_isWord (fun b26 z25 => (b26 = true → post true z25) ∧ (b26 = false → wp_isWord (fun b29 z28 => (b29 = true → post true z28) ∧ (b29 = false → wp_isWord (fun b32 z31 => (b32 = false → wp_isWord (fun b35 z34 => (b35 = true → post true z34) ∧ (b35 = false → wp_isWord (fun b38 z37 => (b38 = true → post true z37) ∧ (b38 = false → wp_isWord (fun b41 z40 => (b41 = true → post true z40) ∧ (b41 = false → wp_isWord (fun b44 z43 => (b44 = true → post true z43) ∧ (b44 = false → wp_isWord (fun b47 z46 => (b47 = false → wp_isWord (fun b50 z49 => (b50 = true → post true z49) ∧ (b50 = false → wp_isWord (fun b53 z52 => (b53 = true → post true z52) ∧ (b53 = false → wp_isWord (fun b56 z55 => (b56 = true → post true z55) ∧ (b56 = false → wp_isWord (fun b59 z58 => (b59 = false → post false z58) ∧ (b59 = true → post true z58)) z55 18)) z52 10)) z49 5)) z46 0) ∧ (b47 = true → post true z46)) z43 2)) z40 17)) z37 6)) z34 11)) z31 8) ∧ (b32 = true → post true z31)) z28 12)) z25 1)) z22 13)) z19 7)) z16 16)) z13 9) ∧ (b14 = true → post true z13)) z10 4)) z7 19)) z4 14)) z1 15)) z0 3
theorem hd_isTold : yX5_isTold.cls = RX5 ∧ yX5_isTold.cls ≠ "java/lang/invoke/MethodHandle" ∧ yX5_isTold.cls ≠ "java/lang/invoke/VarHandle" ∧ (parseMethodDescriptor yX5_isTold.desc).map (fun d => d.parameters.length) = some 0 := by decide +kernel
set_option maxHeartbeats 4000000 in
theorem met_isTold (l : Launch) (G : GP) (ta : Nat → Nat) (d : Nat) {post : Bool → TS → Prop} {z0 : TS} (hw : wp_isTold post z0) : Met l yX5_isTold (ws_ yX5_isTold cX5_isTold 1 (some .boolean)) (rmd (d + 8) 0 0) (tPc G ta z0 [.ref (ta 73)]) (tQz G ta post) 0 0 (TA ta) := by
  unfold wp_isTold at hw
  refine tw_met (by decide) rfl (Nat.le_of_ble_eq_true rfl) ?_
  intro p e s m args below meth c ls E hr hlocks hK hT hS hl
  replace hl : lv_has ls 1 [(0, .ref (ta 73))] := hl
  refine lv_aload_n E.1 E.2.1 dX5_isTold_0 rfl (lv_at hl 0 rfl) ?_
  refine tw_ldcS E hK 33 3 rfl dX5_isTold_1 ?_
  refine tw_callVz E hK hT hS (As := [.ref (gK G 3)]) (rest := []) (met_isWord l G ta (d) hw) (cwV 1 E.2.2.2.2 (lw_V q2079 q2081 qs63 q128 q2082) rfl rfl rfl hd_isWord (rm_ok (by omega) (by decide))) rfl rfl hl.1 (Nat.le_of_ble_eq_true rfl) dX5_isTold_3 (fun b2 z1 H locs hw hT hS => ?_)
  refine lv_if_ne (tgt := 45) E.1 E.2.1 dX5_isTold_6 (by decide) (fun c3 => ?_) (fun c3 => ?_)
  · replace hw := hw.1 (bi_n c3)
    refine lv_iconst (v := nI 1) E.1 E.2.1 dX5_isTold_45 rfl ?_
    exact tw_iretz (b := true) E hr hlocks hT hS rfl hw dX5_isTold_46
  · replace hw := hw.2 (bi_z c3)
    refine lv_aload_n E.1 E.2.1 dX5_isTold_9 rfl (lv_at hl 0 rfl) ?_
    refine tw_ldcS E hK 34 15 rfl dX5_isTold_10 ?_
    refine tw_callVz E hK hT hS (As := [.ref (gK G 15)]) (rest := []) (met_isWord l G ta (d) hw) (cwV 1 E.2.2.2.2 (lw_V q2079 q2081 qs63 q128 q2082) rfl rfl rfl hd_isWord (rm_ok (by omega) (by decide))) rfl rfl hl.1 (Nat.le_of_ble_eq_true rfl) dX5_isTold_12 (fun b5 z4 H locs hw hT hS => ?_)
    refine lv_if_ne (tgt := 45) E.1 E.2.1 dX5_isTold_15 (by decide) (fun c6 => ?_) (fun c6 => ?_)
    · replace hw := hw.1 (bi_n c6)
      refine lv_iconst (v := nI 1) E.1 E.2.1 dX5_isTold_45 rfl ?_
      exact tw_iretz (b := true) E hr hlocks hT hS rfl hw dX5_isTold_46
    · replace hw := hw.2 (bi_z c6)
      refine lv_aload_n E.1 E.2.1 dX5_isTold_18 rfl (lv_at hl 0 rfl) ?_
      refine tw_ldcS E hK 35 14 rfl dX5_isTold_19 ?_
      refine tw_callVz E hK hT hS (As := [.ref (gK G 14)]) (rest := []) (met_isWord l G ta (d) hw) (cwV 1 E.2.2.2.2 (lw_V q2079 q2081 qs63 q128 q2082) rfl rfl rfl hd_isWord (rm_ok (by omega) (by decide))) rfl rfl hl.1 (Nat.le_of_ble_eq_true rfl) dX5_isTold_21 (fun b8 z7 H locs hw hT hS => ?_)
      refine lv_if_ne (tgt := 45) E.1 E.2.1 dX5_isTold_24 (by decide) (fun c9 => ?_) (fun c9 => ?_)
      · replace hw := hw.1 (bi_n c9)
        refine lv_iconst (v := nI 1) E.1 E.2.1 dX5_isTold_45 rfl ?_
        exact tw_iretz (b := true) E hr hlocks hT hS rfl hw dX5_isTold_46
      · replace hw := hw.2 (bi_z c9)
        refine lv_aload_n E.1 E.2.1 dX5_isTold_27 rfl (lv_at hl 0 rfl) ?_
        refine tw_ldcS E hK 36 19 rfl dX5_isTold_28 ?_
        refine tw_callVz E hK hT hS (As := [.ref (gK G 19)]) (rest := []) (met_isWord l G ta (d) hw) (cwV 1 E.2.2.2.2 (lw_V q2079 q2081 qs63 q128 q2082) rfl rfl rfl hd_isWord (rm_ok (by omega) (by decide))) rfl rfl hl.1 (Nat.le_of_ble_eq_true rfl) dX5_isTold_30 (fun b11 z10 H locs hw hT hS => ?_)
        refine lv_if_ne (tgt := 45) E.1 E.2.1 dX5_isTold_33 (by decide) (fun c12 => ?_) (fun c12 => ?_)
        · replace hw := hw.1 (bi_n c12)
          refine lv_iconst (v := nI 1) E.1 E.2.1 dX5_isTold_45 rfl ?_
          exact tw_iretz (b := true) E hr hlocks hT hS rfl hw dX5_isTold_46
        · replace hw := hw.2 (bi_z c12)
          refine lv_aload_n E.1 E.2.1 dX5_isTold_36 rfl (lv_at hl 0 rfl) ?_
          refine tw_ldcS E hK 37 4 rfl dX5_isTold_37 ?_
          refine tw_callVz E hK hT hS (As := [.ref (gK G 4)]) (rest := []) (met_isWord l G ta (d) hw) (cwV 1 E.2.2.2.2 (lw_V q2079 q2081 qs63 q128 q2082) rfl rfl rfl hd_isWord (rm_ok (by omega) (by decide))) rfl rfl hl.1 (Nat.le_of_ble_eq_true rfl) dX5_isTold_39 (fun b14 z13 H locs hw hT hS => ?_)
          refine lv_if_eq (tgt := 47) E.1 E.2.1 dX5_isTold_42 (by decide) (fun c15 => ?_) (fun c15 => ?_)
          · replace hw := hw.1 (bi_z c15)
            refine lv_aload_n E.1 E.2.1 dX5_isTold_47 rfl (lv_at hl 0 rfl) ?_
            refine tw_ldcSw E hK 38 9 rfl dX5_isTold_48 ?_
            refine tw_callVz E hK hT hS (As := [.ref (gK G 9)]) (rest := []) (met_isWord l G ta (d) hw) (cwV 1 E.2.2.2.2 (lw_V q2079 q2081 qs63 q128 q2082) rfl rfl rfl hd_isWord (rm_ok (by omega) (by decide))) rfl rfl hl.1 (Nat.le_of_ble_eq_true rfl) dX5_isTold_51 (fun b17 z16 H locs hw hT hS => ?_)
            refine lv_if_ne (tgt := 107) E.1 E.2.1 dX5_isTold_54 (by decide) (fun c18 => ?_) (fun c18 => ?_)
            · replace hw := hw.1 (bi_n c18)
              refine lv_iconst (v := nI 1) E.1 E.2.1 dX5_isTold_107 rfl ?_
              exact tw_iretz (b := true) E hr hlocks hT hS rfl hw dX5_isTold_108
            · replace hw := hw.2 (bi_z c18)
              refine lv_aload_n E.1 E.2.1 dX5_isTold_57 rfl (lv_at hl 0 rfl) ?_
              refine tw_ldcSw E hK 39 16 rfl dX5_isTold_58 ?_
              refine tw_callVz E hK hT hS (As := [.ref (gK G 16)]) (rest := []) (met_isWord l G ta (d) hw) (cwV 1 E.2.2.2.2 (lw_V q2079 q2081 qs63 q128 q2082) rfl rfl rfl hd_isWord (rm_ok (by omega) (by decide))) rfl rfl hl.1 (Nat.le_of_ble_eq_true rfl) dX5_isTold_61 (fun b20 z19 H locs hw hT hS => ?_)
              refine lv_if_ne (tgt := 107) E.1 E.2.1 dX5_isTold_64 (by decide) (fun c21 => ?_) (fun c21 => ?_)
              · replace hw := hw.1 (bi_n c21)
                refine lv_iconst (v := nI 1) E.1 E.2.1 dX5_isTold_107 rfl ?_
                exact tw_iretz (b := true) E hr hlocks hT hS rfl hw dX5_isTold_108
              · replace hw := hw.2 (bi_z c21)
                refine lv_aload_n E.1 E.2.1 dX5_isTold_67 rfl (lv_at hl 0 rfl) ?_
                refine tw_ldcSw E hK 40 7 rfl dX5_isTold_68 ?_
                refine tw_callVz E hK hT hS (As := [.ref (gK G 7)]) (rest := []) (met_isWord l G ta (d) hw) (cwV 1 E.2.2.2.2 (lw_V q2079 q2081 qs63 q128 q2082) rfl rfl rfl hd_isWord (rm_ok (by omega) (by decide))) rfl rfl hl.1 (Nat.le_of_ble_eq_true rfl) dX5_isTold_71 (fun b23 z22 H locs hw hT hS => ?_)
                refine lv_if_ne (tgt := 107) E.1 E.2.1 dX5_isTold_74 (by decide) (fun c24 => ?_) (fun c24 => ?_)
                · replace hw := hw.1 (bi_n c24)
                  refine lv_iconst (v := nI 1) E.1 E.2.1 dX5_isTold_107 rfl ?_
                  exact tw_iretz (b := true) E hr hlocks hT hS rfl hw dX5_isTold_108
                · replace hw := hw.2 (bi_z c24)
                  refine lv_aload_n E.1 E.2.1 dX5_isTold_77 rfl (lv_at hl 0 rfl) ?_
                  refine tw_ldcSw E hK 41 13 rfl dX5_isTold_78 ?_
                  refine tw_callVz E hK hT hS (As := [.ref (gK G 13)]) (rest := []) (met_isWord l G ta (d) hw) (cwV 1 E.2.2.2.2 (lw_V q2079 q2081 qs63 q128 q2082) rfl rfl rfl hd_isWord (rm_ok (by omega) (by decide))) rfl rfl hl.1 (Nat.le_of_ble_eq_true rfl) dX5_isTold_81 (fun b26 z25 H locs hw hT hS => ?_)
                  refine lv_if_ne (tgt := 107) E.1 E.2.1 dX5_isTold_84 (by decide) (fun c27 => ?_) (fun c27 => ?_)
                  · replace hw := hw.1 (bi_n c27)
                    refine lv_iconst (v := nI 1) E.1 E.2.1 dX5_isTold_107 rfl ?_
                    exact tw_iretz (b := true) E hr hlocks hT hS rfl hw dX5_isTold_108
                  · replace hw := hw.2 (bi_z c27)
                    refine lv_aload_n E.1 E.2.1 dX5_isTold_87 rfl (lv_at hl 0 rfl) ?_
                    refine tw_ldcSw E hK 42 1 rfl dX5_isTold_88 ?_
                    refine tw_callVz E hK hT hS (As := [.ref (gK G 1)]) (rest := []) (met_isWord l G ta (d) hw) (cwV 1 E.2.2.2.2 (lw_V q2079 q2081 qs63 q128 q2082) rfl rfl rfl hd_isWord (rm_ok (by omega) (by decide))) rfl rfl hl.1 (Nat.le_of_ble_eq_true rfl) dX5_isTold_91 (fun b29 z28 H locs hw hT hS => ?_)
                    refine lv_if_ne (tgt := 107) E.1 E.2.1 dX5_isTold_94 (by decide) (fun c30 => ?_) (fun c30 => ?_)
                    · replace hw := hw.1 (bi_n c30)
                      refine lv_iconst (v := nI 1) E.1 E.2.1 dX5_isTold_107 rfl ?_
                      exact tw_iretz (b := true) E hr hlocks hT hS rfl hw dX5_isTold_108
                    · replace hw := hw.2 (bi_z c30)
                      refine lv_aload_n E.1 E.2.1 dX5_isTold_97 rfl (lv_at hl 0 rfl) ?_
                      refine tw_ldcSw E hK 43 12 rfl dX5_isTold_98 ?_
                      refine tw_callVz E hK hT hS (As := [.ref (gK G 12)]) (rest := []) (met_isWord l G ta (d) hw) (cwV 1 E.2.2.2.2 (lw_V q2079 q2081 qs63 q128 q2082) rfl rfl rfl hd_isWord (rm_ok (by omega) (by decide))) rfl rfl hl.1 (Nat.le_of_ble_eq_true rfl) dX5_isTold_101 (fun b32 z31 H locs hw hT hS => ?_)
                      refine lv_if_eq (tgt := 109) E.1 E.2.1 dX5_isTold_104 (by decide) (fun c33 => ?_) (fun c33 => ?_)
                      · replace hw := hw.1 (bi_z c33)
                        refine lv_aload_n E.1 E.2.1 dX5_isTold_109 rfl (lv_at hl 0 rfl) ?_
                        refine tw_ldcSw E hK 44 8 rfl dX5_isTold_110 ?_
                        refine tw_callVz E hK hT hS (As := [.ref (gK G 8)]) (rest := []) (met_isWord l G ta (d) hw) (cwV 1 E.2.2.2.2 (lw_V q2079 q2081 qs63 q128 q2082) rfl rfl rfl hd_isWord (rm_ok (by omega) (by decide))) rfl rfl hl.1 (Nat.le_of_ble_eq_true rfl) dX5_isTold_113 (fun b35 z34 H locs hw hT hS => ?_)
                        refine lv_if_ne (tgt := 159) E.1 E.2.1 dX5_isTold_116 (by decide) (fun c36 => ?_) (fun c36 => ?_)
                        · replace hw := hw.1 (bi_n c36)
                          refine lv_iconst (v := nI 1) E.1 E.2.1 dX5_isTold_159 rfl ?_
                          exact tw_iretz (b := true) E hr hlocks hT hS rfl hw dX5_isTold_160
                        · replace hw := hw.2 (bi_z c36)
                          refine lv_aload_n E.1 E.2.1 dX5_isTold_119 rfl (lv_at hl 0 rfl) ?_
                          refine tw_ldcSw E hK 45 11 rfl dX5_isTold_120 ?_
                          refine tw_callVz E hK hT hS (As := [.ref (gK G 11)]) (rest := []) (met_isWord l G ta (d) hw) (cwV 1 E.2.2.2.2 (lw_V q2079 q2081 qs63 q128 q2082) rfl rfl rfl hd_isWord (rm_ok (by omega) (by decide))) rfl rfl hl.1 (Nat.le_of_ble_eq_true rfl) dX5_isTold_123 (fun b38 z37 H locs hw hT hS => ?_)
                          refine lv_if_ne (tgt := 159) E.1 E.2.1 dX5_isTold_126 (by decide) (fun c39 => ?_) (fun c39 => ?_)
                          · replace hw := hw.1 (bi_n c39)
                            refine lv_iconst (v := nI 1) E.1 E.2.1 dX5_isTold_159 rfl ?_
                            exact tw_iretz (b := true) E hr hlocks hT hS rfl hw dX5_isTold_160
                          · replace hw := hw.2 (bi_z c39)
                            refine lv_aload_n E.1 E.2.1 dX5_isTold_129 rfl (lv_at hl 0 rfl) ?_
                            refine tw_ldcSw E hK 46 6 rfl dX5_isTold_130 ?_
                            refine tw_callVz E hK hT hS (As := [.ref (gK G 6)]) (rest := []) (met_isWord l G ta (d) hw) (cwV 1 E.2.2.2.2 (lw_V q2079 q2081 qs63 q128 q2082) rfl rfl rfl hd_isWord (rm_ok (by omega) (by decide))) rfl rfl hl.1 (Nat.le_of_ble_eq_true rfl) dX5_isTold_133 (fun b41 z40 H locs hw hT hS => ?_)
                            refine lv_if_ne (tgt := 159) E.1 E.2.1 dX5_isTold_136 (by decide) (fun c42 => ?_) (fun c42 => ?_)
                            · replace hw := hw.1 (bi_n c42)
                              refine lv_iconst (v := nI 1) E.1 E.2.1 dX5_isTold_159 rfl ?_
                              exact tw_iretz (b := true) E hr hlocks hT hS rfl hw dX5_isTold_160
                            · replace hw := hw.2 (bi_z c42)
                              refine lv_aload_n E.1 E.2.1 dX5_isTold_139 rfl (lv_at hl 0 rfl) ?_
                              refine tw_ldcSw E hK 47 17 rfl dX5_isTold_140 ?_
                              refine tw_callVz E hK hT hS (As := [.ref (gK G 17)]) (rest := []) (met_isWord l G ta (d) hw) (cwV 1 E.2.2.2.2 (lw_V q2079 q2081 qs63 q128 q2082) rfl rfl rfl hd_isWord (rm_ok (by omega) (by decide))) rfl rfl hl.1 (Nat.le_of_ble_eq_true rfl) dX5_isTold_143 (fun b44 z43 H locs hw hT hS => ?_)
                              refine lv_if_ne (tgt := 159) E.1 E.2.1 dX5_isTold_146 (by decide) (fun c45 => ?_) (fun c45 => ?_)
                              · replace hw := hw.1 (bi_n c45)
                                refine lv_iconst (v := nI 1) E.1 E.2.1 dX5_isTold_159 rfl ?_
                                exact tw_iretz (b := true) E hr hlocks hT hS rfl hw dX5_isTold_160
                              · replace hw := hw.2 (bi_z c45)
                                refine lv_aload_n E.1 E.2.1 dX5_isTold_149 rfl (lv_at hl 0 rfl) ?_
                                refine tw_ldcSw E hK 48 2 rfl dX5_isTold_150 ?_
                                refine tw_callVz E hK hT hS (As := [.ref (gK G 2)]) (rest := []) (met_isWord l G ta (d) hw) (cwV 1 E.2.2.2.2 (lw_V q2079 q2081 qs63 q128 q2082) rfl rfl rfl hd_isWord (rm_ok (by omega) (by decide))) rfl rfl hl.1 (Nat.le_of_ble_eq_true rfl) dX5_isTold_153 (fun b47 z46 H locs hw hT hS => ?_)
                                refine lv_if_eq (tgt := 161) E.1 E.2.1 dX5_isTold_156 (by decide) (fun c48 => ?_) (fun c48 => ?_)
                                · replace hw := hw.1 (bi_z c48)
                                  refine lv_aload_n E.1 E.2.1 dX5_isTold_161 rfl (lv_at hl 0 rfl) ?_
                                  refine tw_ldcSw E hK 49 0 rfl dX5_isTold_162 ?_
                                  refine tw_callVz E hK hT hS (As := [.ref (gK G 0)]) (rest := []) (met_isWord l G ta (d) hw) (cwV 1 E.2.2.2.2 (lw_V q2079 q2081 qs63 q128 q2082) rfl rfl rfl hd_isWord (rm_ok (by omega) (by decide))) rfl rfl hl.1 (Nat.le_of_ble_eq_true rfl) dX5_isTold_165 (fun b50 z49 H locs hw hT hS => ?_)
                                  refine lv_if_ne (tgt := 201) E.1 E.2.1 dX5_isTold_168 (by decide) (fun c51 => ?_) (fun c51 => ?_)
                                  · replace hw := hw.1 (bi_n c51)
                                    refine lv_iconst (v := nI 1) E.1 E.2.1 dX5_isTold_201 rfl ?_
                                    refine lv_goto (tgt := 206) E.1 E.2.1 dX5_isTold_202 (by decide) ?_
                                    exact tw_iretz (b := true) E hr hlocks hT hS rfl hw dX5_isTold_206
                                  · replace hw := hw.2 (bi_z c51)
                                    refine lv_aload_n E.1 E.2.1 dX5_isTold_171 rfl (lv_at hl 0 rfl) ?_
                                    refine tw_ldcSw E hK 50 5 rfl dX5_isTold_172 ?_
                                    refine tw_callVz E hK hT hS (As := [.ref (gK G 5)]) (rest := []) (met_isWord l G ta (d) hw) (cwV 1 E.2.2.2.2 (lw_V q2079 q2081 qs63 q128 q2082) rfl rfl rfl hd_isWord (rm_ok (by omega) (by decide))) rfl rfl hl.1 (Nat.le_of_ble_eq_true rfl) dX5_isTold_175 (fun b53 z52 H locs hw hT hS => ?_)
                                    refine lv_if_ne (tgt := 201) E.1 E.2.1 dX5_isTold_178 (by decide) (fun c54 => ?_) (fun c54 => ?_)
                                    · replace hw := hw.1 (bi_n c54)
                                      refine lv_iconst (v := nI 1) E.1 E.2.1 dX5_isTold_201 rfl ?_
                                      refine lv_goto (tgt := 206) E.1 E.2.1 dX5_isTold_202 (by decide) ?_
                                      exact tw_iretz (b := true) E hr hlocks hT hS rfl hw dX5_isTold_206
                                    · replace hw := hw.2 (bi_z c54)
                                      refine lv_aload_n E.1 E.2.1 dX5_isTold_181 rfl (lv_at hl 0 rfl) ?_
                                      refine tw_ldcSw E hK 51 10 rfl dX5_isTold_182 ?_
                                      refine tw_callVz E hK hT hS (As := [.ref (gK G 10)]) (rest := []) (met_isWord l G ta (d) hw) (cwV 1 E.2.2.2.2 (lw_V q2079 q2081 qs63 q128 q2082) rfl rfl rfl hd_isWord (rm_ok (by omega) (by decide))) rfl rfl hl.1 (Nat.le_of_ble_eq_true rfl) dX5_isTold_185 (fun b56 z55 H locs hw hT hS => ?_)
                                      refine lv_if_ne (tgt := 201) E.1 E.2.1 dX5_isTold_188 (by decide) (fun c57 => ?_) (fun c57 => ?_)
                                      · replace hw := hw.1 (bi_n c57)
                                        refine lv_iconst (v := nI 1) E.1 E.2.1 dX5_isTold_201 rfl ?_
                                        refine lv_goto (tgt := 206) E.1 E.2.1 dX5_isTold_202 (by decide) ?_
                                        exact tw_iretz (b := true) E hr hlocks hT hS rfl hw dX5_isTold_206
                                      · replace hw := hw.2 (bi_z c57)
                                        refine lv_aload_n E.1 E.2.1 dX5_isTold_191 rfl (lv_at hl 0 rfl) ?_
                                        refine tw_ldcSw E hK 52 18 rfl dX5_isTold_192 ?_
                                        refine tw_callVz E hK hT hS (As := [.ref (gK G 18)]) (rest := []) (met_isWord l G ta (d) hw) (cwV 1 E.2.2.2.2 (lw_V q2079 q2081 qs63 q128 q2082) rfl rfl rfl hd_isWord (rm_ok (by omega) (by decide))) rfl rfl hl.1 (Nat.le_of_ble_eq_true rfl) dX5_isTold_195 (fun b59 z58 H locs hw hT hS => ?_)
                                        refine lv_if_eq (tgt := 205) E.1 E.2.1 dX5_isTold_198 (by decide) (fun c60 => ?_) (fun c60 => ?_)
                                        · replace hw := hw.1 (bi_z c60)
                                          refine lv_iconst (v := nI 0) E.1 E.2.1 dX5_isTold_205 rfl ?_
                                          exact tw_iretz (b := false) E hr hlocks hT hS rfl hw dX5_isTold_206
                                        · replace hw := hw.2 (bi_n c60)
                                          refine lv_iconst (v := nI 1) E.1 E.2.1 dX5_isTold_201 rfl ?_
                                          refine lv_goto (tgt := 206) E.1 E.2.1 dX5_isTold_202 (by decide) ?_
                                          exact tw_iretz (b := true) E hr hlocks hT hS rfl hw dX5_isTold_206
                                · replace hw := hw.2 (bi_n c48)
                                  refine lv_iconst (v := nI 1) E.1 E.2.1 dX5_isTold_159 rfl ?_
                                  exact tw_iretz (b := true) E hr hlocks hT hS rfl hw dX5_isTold_160
                      · replace hw := hw.2 (bi_n c33)
                        refine lv_iconst (v := nI 1) E.1 E.2.1 dX5_isTold_107 rfl ?_
                        exact tw_iretz (b := true) E hr hlocks hT hS rfl hw dX5_isTold_108
          · replace hw := hw.2 (bi_n c15)
            refine lv_iconst (v := nI 1) E.1 E.2.1 dX5_isTold_45 rfl ?_
            exact tw_iretz (b := true) E hr hlocks hT hS rfl hw dX5_isTold_46
/-- name()J -/
def wp_name (post : Int64 → TS → Prop) (z0 : TS) : Prop := (¬ (sx z0 48) = 0 → post (sw z0) z0) ∧ ((sx z0 48) = 0 → ∃ J2 : TS → Prop, (∀ (z4 : TS), J2 z4  → wp_wrong (fun z5 => post (sw z5) z5) z4 (nI 1)) ∧ ((¬ (sx z0 45) = (nI 2) → J2 z0 ) ∧ ((sx z0 45) = (nI 2) → wp_isTold (fun b8 z7 => (b8 = false → post (sw z7) z7) ∧ (b8 = true → J2 z7 )) z0)))
theorem hd_name : yX5_name.cls = RX5 ∧ yX5_name.cls ≠ "java/lang/invoke/MethodHandle" ∧ yX5_name.cls ≠ "java/lang/invoke/VarHandle" ∧ (parseMethodDescriptor yX5_name.desc).map (fun d => d.parameters.length) = some 0 := by decide +kernel
set_option maxHeartbeats 4000000 in
theorem met_name (l : Launch) (G : GP) (ta : Nat → Nat) (d : Nat) {post : Int64 → TS → Prop} {z0 : TS} (hw : wp_name post z0) : Met l yX5_name (ws_ yX5_name cX5_name 1 (some .long)) (rmd (d + 9) 0 0) (tPc G ta z0 [.ref (ta 73)]) (tQl G ta post) 0 0 (TA ta) := by
  unfold wp_name at hw
  refine tw_met (by decide) rfl (Nat.le_of_ble_eq_true rfl) ?_
  intro p e s m args below meth c ls E hr hlocks hK hT hS hl
  replace hl : lv_has ls 1 [(0, .ref (ta 73))] := hl
  refine lv_aload_n E.1 E.2.1 dX5_name_0 rfl (lv_at hl 0 rfl) ?_
  refine tw_get E hK hT 48 (Nat.le_of_ble_eq_true rfl) q1858 rfl (v := .int (sx z0 48)) rfl dX5_name_1 ?_
  refine lv_if_ne (tgt := 27) E.1 E.2.1 dX5_name_4 (by decide) (fun c1 => ?_) (fun c1 => ?_)
  · replace hw := hw.1 (c1)
    refine lv_aload_n E.1 E.2.1 dX5_name_27 rfl (lv_at hl 0 rfl) ?_
    refine tw_get E hK hT 46 (Nat.le_of_ble_eq_true rfl) q1856 rfl (v := .long (sw z0)) rfl dX5_name_28 ?_
    exact tw_lret E hr hlocks hT hS hw dX5_name_31
  · replace hw := hw.2 (c1)
    obtain ⟨J2, hj10, hw⟩ := hw
    have jh3 : ∀ (z4 : TS), J2 z4  → ∀ (H : Heap) (locs : List Loc) (ls : Array Slot), TW G ta z4 H → va_S (TA ta) s.heap H locs → lv_has ls 1 [(0, .ref (ta 73))] → W p l e (rmd (d + 9) 0 0) s m args below meth c H locs 0 0 (MQ below (tQl G ta post) args s 0 0 (TA ta)) (F0 m 22 ls []) := by
      intro z4 hw H locs ls hT hS hl
      replace hw := hj10 z4 hw
      refine lv_aload_n E.1 E.2.1 dX5_name_22 rfl (lv_at hl 0 rfl) ?_
      refine lv_iconst (v := nI 1) E.1 E.2.1 dX5_name_23 rfl ?_
      refine tw_callVv E hK hT hS (As := [.int (nI 1)]) (rest := []) (met_wrong l G ta (d + 7) hw) (cwV 1 E.2.2.2.2 (lw_V q2113 q2115 qs66 q128 q2116) rfl rfl rfl hd_wrong (rm_ok (by omega) (by decide))) rfl rfl hl.1 (Nat.le_of_ble_eq_true rfl) dX5_name_24 (fun z5 H locs hw hT hS => ?_)
      refine lv_aload_n E.1 E.2.1 dX5_name_27 rfl (lv_at hl 0 rfl) ?_
      refine tw_get E hK hT 46 (Nat.le_of_ble_eq_true rfl) q1856 rfl (v := .long (sw z5)) rfl dX5_name_28 ?_
      exact tw_lret E hr hlocks hT hS hw dX5_name_31
    refine lv_aload_n E.1 E.2.1 dX5_name_7 rfl (lv_at hl 0 rfl) ?_
    refine tw_get E hK hT 45 (Nat.le_of_ble_eq_true rfl) q1855 rfl (v := .int (sx z0 45)) rfl dX5_name_8 ?_
    refine lv_iconst (v := nI 2) E.1 E.2.1 dX5_name_11 rfl ?_
    refine lv_icmp_ne (tgt := 22) E.1 E.2.1 dX5_name_12 (by decide) (fun c6 => ?_) (fun c6 => ?_)
    · replace hw := hw.1 (c6)
      exact jh3 _ hw _ _ _ hT hS (lv_sub hl [0] rfl)
    · replace hw := hw.2 (c6)
      refine lv_aload_n E.1 E.2.1 dX5_name_15 rfl (lv_at hl 0 rfl) ?_
      refine tw_callVz E hK hT hS (As := []) (rest := []) (met_isTold l G ta (d) hw) (cwV 0 E.2.2.2.2 (lw_V q2125 q2127 qs69 q128 q2128) rfl rfl rfl hd_isTold (rm_ok (by omega) (by decide))) rfl rfl hl.1 (Nat.le_of_ble_eq_true rfl) dX5_name_16 (fun b8 z7 H locs hw hT hS => ?_)
      refine lv_if_eq (tgt := 27) E.1 E.2.1 dX5_name_19 (by decide) (fun c9 => ?_) (fun c9 => ?_)
      · replace hw := hw.1 (bi_z c9)
        refine lv_aload_n E.1 E.2.1 dX5_name_27 rfl (lv_at hl 0 rfl) ?_
        refine tw_get E hK hT 46 (Nat.le_of_ble_eq_true rfl) q1856 rfl (v := .long (sw z7)) rfl dX5_name_28 ?_
        exact tw_lret E hr hlocks hT hS hw dX5_name_31
      · replace hw := hw.2 (bi_n c9)
        exact jh3 _ hw _ _ _ hT hS (lv_sub hl [0] rfl)
/-- byteAt(I)I -/
def wp_byteAt (post : Int32 → TS → Prop) (z0 : TS) (i1 : Int32) : Prop := ((sx z0 42) ≤ i1 → post ((-1)) z0) ∧ (¬ (sx z0 42) ≤ i1 → vp_in (i1) 936 ∧ post (sf z0 0 i1.toNatClampNeg) z0)
theorem hd_byteAt : yX5_byteAt.cls = RX5 ∧ yX5_byteAt.cls ≠ "java/lang/invoke/MethodHandle" ∧ yX5_byteAt.cls ≠ "java/lang/invoke/VarHandle" ∧ (parseMethodDescriptor yX5_byteAt.desc).map (fun d => d.parameters.length) = some 1 := by decide +kernel
set_option maxHeartbeats 4000000 in
theorem met_byteAt (l : Launch) (G : GP) (ta : Nat → Nat) (d : Nat) {post : Int32 → TS → Prop} {z0 : TS} {i1 : Int32} (hw : wp_byteAt post z0 i1) : Met l yX5_byteAt (ws_ yX5_byteAt cX5_byteAt 2 (some .int)) (rmd (d + 0) 0 0) (tPc G ta z0 [.ref (ta 73), .int (i1)]) (tQi G ta post) 0 0 (TA ta) := by
  unfold wp_byteAt at hw
  refine tw_met (by decide) rfl (Nat.le_of_ble_eq_true rfl) ?_
  intro p e s m args below meth c ls E hr hlocks hK hT hS hl
  replace hl : lv_has ls 2 [(0, .ref (ta 73)), (1, .int (i1))] := hl
  refine lv_iload_n E.1 E.2.1 dX5_byteAt_0 rfl (lv_at hl 1 rfl) ?_
  refine lv_aload_n E.1 E.2.1 dX5_byteAt_1 rfl (lv_at hl 0 rfl) ?_
  refine tw_get E hK hT 42 (Nat.le_of_ble_eq_true rfl) q1852 rfl (v := .int (sx z0 42)) rfl dX5_byteAt_2 ?_
  refine lv_icmp_ge (tgt := 17) E.1 E.2.1 dX5_byteAt_5 (by decide) (fun c1 => ?_) (fun c1 => ?_)
  · replace hw := hw.1 (c1)
    refine lv_iconst (v := (-1)) E.1 E.2.1 dX5_byteAt_17 rfl ?_
    exact tw_ireti E hr hlocks hT hS hw dX5_byteAt_18
  · replace hw := hw.2 (c1)
    refine lv_aload_n E.1 E.2.1 dX5_byteAt_8 rfl (lv_at hl 0 rfl) ?_
    refine tw_get E hK hT 0 (Nat.le_of_ble_eq_true rfl) q1810 rfl (v := .ref (ta 0)) rfl dX5_byteAt_9 ?_
    refine lv_iload_n E.1 E.2.1 dX5_byteAt_12 rfl (lv_at hl 1 rfl) ?_
    obtain ⟨hin, hw⟩ := hw
    refine tw_iald E hK hT 0 rfl hin dX5_byteAt_13 ?_
    refine lv_goto (tgt := 18) E.1 E.2.1 dX5_byteAt_14 (by decide) ?_
    exact tw_ireti E hr hlocks hT hS hw dX5_byteAt_18
/-- isDigit(I)Z -/
def wp_isDigit (post : Bool → TS → Prop) (z0 : TS) (i0 : Int32) : Prop := (i0 < (nI 48) → post false z0) ∧ (¬ i0 < (nI 48) → ((nI 57) < i0 → post false z0) ∧ (¬ (nI 57) < i0 → post true z0))
theorem hs_isDigit : yX5_isDigit.cls ≠ "java/lang/invoke/MethodHandle" ∧ yX5_isDigit.cls ≠ "java/lang/invoke/VarHandle" ∧ (parseMethodDescriptor yX5_isDigit.desc).map (fun d => d.parameters.length) = some 1 := by decide +kernel
set_option maxHeartbeats 4000000 in
theorem met_isDigit (l : Launch) (G : GP) (ta : Nat → Nat) (d : Nat) {post : Bool → TS → Prop} {z0 : TS} {i0 : Int32} (hw : wp_isDigit post z0 i0) : Met l yX5_isDigit (ws_ yX5_isDigit cX5_isDigit 1 (some .boolean)) (rmd (d + 0) 0 0) (tPc G ta z0 [.int (i0)]) (tQz G ta post) 0 0 (TA ta) := by
  unfold wp_isDigit at hw
  refine tw_met (by decide) rfl (Nat.le_of_ble_eq_true rfl) ?_
  intro p e s m args below meth c ls E hr hlocks hK hT hS hl
  replace hl : lv_has ls 1 [(0, .int (i0))] := hl
  refine lv_iload_n E.1 E.2.1 dX5_isDigit_0 rfl (lv_at hl 0 rfl) ?_
  refine lv_bipush (v := nI 48) E.1 E.2.1 dX5_isDigit_1 rfl ?_
  refine lv_icmp_lt (tgt := 16) E.1 E.2.1 dX5_isDigit_3 (by decide) (fun c1 => ?_) (fun c1 => ?_)
  · replace hw := hw.1 (c1)
    refine lv_iconst (v := nI 0) E.1 E.2.1 dX5_isDigit_16 rfl ?_
    exact tw_iretz (b := false) E hr hlocks hT hS rfl hw dX5_isDigit_17
  · replace hw := hw.2 (c1)
    refine lv_iload_n E.1 E.2.1 dX5_isDigit_6 rfl (lv_at hl 0 rfl) ?_
    refine lv_bipush (v := nI 57) E.1 E.2.1 dX5_isDigit_7 rfl ?_
    refine lv_icmp_gt (tgt := 16) E.1 E.2.1 dX5_isDigit_9 (by decide) (fun c2 => ?_) (fun c2 => ?_)
    · replace hw := hw.1 (c2)
      refine lv_iconst (v := nI 0) E.1 E.2.1 dX5_isDigit_16 rfl ?_
      exact tw_iretz (b := false) E hr hlocks hT hS rfl hw dX5_isDigit_17
    · replace hw := hw.2 (c2)
      refine lv_iconst (v := nI 1) E.1 E.2.1 dX5_isDigit_12 rfl ?_
      refine lv_goto (tgt := 17) E.1 E.2.1 dX5_isDigit_13 (by decide) ?_
      exact tw_iretz (b := true) E hr hlocks hT hS rfl hw dX5_isDigit_17
/-- isSmall(I)Z -/
def wp_isSmall (post : Bool → TS → Prop) (z0 : TS) (i0 : Int32) : Prop := (i0 < (nI 97) → post false z0) ∧ (¬ i0 < (nI 97) → ((nI 122) < i0 → post false z0) ∧ (¬ (nI 122) < i0 → post true z0))
theorem hs_isSmall : yX5_isSmall.cls ≠ "java/lang/invoke/MethodHandle" ∧ yX5_isSmall.cls ≠ "java/lang/invoke/VarHandle" ∧ (parseMethodDescriptor yX5_isSmall.desc).map (fun d => d.parameters.length) = some 1 := by decide +kernel
set_option maxHeartbeats 4000000 in
theorem met_isSmall (l : Launch) (G : GP) (ta : Nat → Nat) (d : Nat) {post : Bool → TS → Prop} {z0 : TS} {i0 : Int32} (hw : wp_isSmall post z0 i0) : Met l yX5_isSmall (ws_ yX5_isSmall cX5_isSmall 1 (some .boolean)) (rmd (d + 0) 0 0) (tPc G ta z0 [.int (i0)]) (tQz G ta post) 0 0 (TA ta) := by
  unfold wp_isSmall at hw
  refine tw_met (by decide) rfl (Nat.le_of_ble_eq_true rfl) ?_
  intro p e s m args below meth c ls E hr hlocks hK hT hS hl
  replace hl : lv_has ls 1 [(0, .int (i0))] := hl
  refine lv_iload_n E.1 E.2.1 dX5_isSmall_0 rfl (lv_at hl 0 rfl) ?_
  refine lv_bipush (v := nI 97) E.1 E.2.1 dX5_isSmall_1 rfl ?_
  refine lv_icmp_lt (tgt := 16) E.1 E.2.1 dX5_isSmall_3 (by decide) (fun c1 => ?_) (fun c1 => ?_)
  · replace hw := hw.1 (c1)
    refine lv_iconst (v := nI 0) E.1 E.2.1 dX5_isSmall_16 rfl ?_
    exact tw_iretz (b := false) E hr hlocks hT hS rfl hw dX5_isSmall_17
  · replace hw := hw.2 (c1)
    refine lv_iload_n E.1 E.2.1 dX5_isSmall_6 rfl (lv_at hl 0 rfl) ?_
    refine lv_bipush (v := nI 122) E.1 E.2.1 dX5_isSmall_7 rfl ?_
    refine lv_icmp_gt (tgt := 16) E.1 E.2.1 dX5_isSmall_9 (by decide) (fun c2 => ?_) (fun c2 => ?_)
    · replace hw := hw.1 (c2)
      refine lv_iconst (v := nI 0) E.1 E.2.1 dX5_isSmall_16 rfl ?_
      exact tw_iretz (b := false) E hr hlocks hT hS rfl hw dX5_isSmall_17
    · replace hw := hw.2 (c2)
      refine lv_iconst (v := nI 1) E.1 E.2.1 dX5_isSmall_12 rfl ?_
      refine lv_goto (tgt := 17) E.1 E.2.1 dX5_isSmall_13 (by decide) ?_
      exact tw_iretz (b := true) E hr hlocks hT hS rfl hw dX5_isSmall_17
/-- codes(I)V -/
def wp_codes (post : TS → Prop) (z0 : TS) (i1 : Int32) : Prop := wp_within (fun b2 z1 => (b2 = false → wp_within (fun b5 z4 => (b5 = false → post z4) ∧ (b5 = true → ∀ z7, z7 = ux z4 45 (nI 1) → ∀ z8, z8 = ux z7 47 ((sx z7 47) + ((nI 1000) + ((nI 100) * (i1 - (nI 112))))) → post z8)) z1 i1 (nI 112) (nI 116)) ∧ (b2 = true → ∀ z9, z9 = ux z1 45 (nI 1) → ∀ z10, z10 = ux z9 47 ((sx z9 47) + ((nI 100) * (i1 - (nI 97)))) → post z10)) z0 i1 (nI 97) (nI 106)
theorem hd_codes : yX5_codes.cls = RX5 ∧ yX5_codes.cls ≠ "java/lang/invoke/MethodHandle" ∧ yX5_codes.cls ≠ "java/lang/invoke/VarHandle" ∧ (parseMethodDescriptor yX5_codes.desc).map (fun d => d.parameters.length) = some 1 := by decide +kernel
set_option maxHeartbeats 4000000 in
theorem met_codes (l : Launch) (G : GP) (ta : Nat → Nat) (d : Nat) {post : TS → Prop} {z0 : TS} {i1 : Int32} (hw : wp_codes post z0 i1) : Met l yX5_codes (ws_ yX5_codes cX5_codes 2 none) (rmd (d + 1) 0 0) (tPc G ta z0 [.ref (ta 73), .int (i1)]) (tQv G ta post) 0 0 (TA ta) := by
  unfold wp_codes at hw
  refine tw_met (by decide) rfl (Nat.le_of_ble_eq_true rfl) ?_
  intro p e s m args below meth c ls E hr hlocks hK hT hS hl
  replace hl : lv_has ls 2 [(0, .ref (ta 73)), (1, .int (i1))] := hl
  refine lv_iload_n E.1 E.2.1 dX5_codes_0 rfl (lv_at hl 1 rfl) ?_
  refine lv_bipush (v := nI 97) E.1 E.2.1 dX5_codes_1 rfl ?_
  refine lv_bipush (v := nI 106) E.1 E.2.1 dX5_codes_3 rfl ?_
  refine tw_callSz E hK hT hS (As := [.int (i1), .int (nI 97), .int (nI 106)]) (rest := []) (met_within l G ta (d) hw) (va_cwS 3 E.2.2.2.2 (lw_S q2048 q2049 q128 q2050) rfl rfl rfl hs_within (rm_ok (by omega) (by decide))) rfl rfl hl.1 (Nat.le_of_ble_eq_true rfl) dX5_codes_5 (fun b2 z1 H locs hw hT hS => ?_)
  refine lv_if_eq (tgt := 35) E.1 E.2.1 dX5_codes_8 (by decide) (fun c3 => ?_) (fun c3 => ?_)
  · replace hw := hw.1 (bi_z c3)
    refine lv_iload_n E.1 E.2.1 dX5_codes_35 rfl (lv_at hl 1 rfl) ?_
    refine lv_bipush (v := nI 112) E.1 E.2.1 dX5_codes_36 rfl ?_
    refine lv_bipush (v := nI 116) E.1 E.2.1 dX5_codes_38 rfl ?_
    refine tw_callSz E hK hT hS (As := [.int (i1), .int (nI 112), .int (nI 116)]) (rest := []) (met_within l G ta (d) hw) (va_cwS 3 E.2.2.2.2 (lw_S q2048 q2049 q128 q2050) rfl rfl rfl hs_within (rm_ok (by omega) (by decide))) rfl rfl hl.1 (Nat.le_of_ble_eq_true rfl) dX5_codes_40 (fun b5 z4 H locs hw hT hS => ?_)
    refine lv_if_eq (tgt := 71) E.1 E.2.1 dX5_codes_43 (by decide) (fun c6 => ?_) (fun c6 => ?_)
    · replace hw := hw.1 (bi_z c6)
      exact tw_vret E hr hlocks hT hS hw dX5_codes_71
    · replace hw := hw.2 (bi_n c6)
      refine lv_aload_n E.1 E.2.1 dX5_codes_46 rfl (lv_at hl 0 rfl) ?_
      refine lv_iconst (v := nI 1) E.1 E.2.1 dX5_codes_47 rfl ?_
      refine tw_puti E hK hT hS 45 (Nat.le_of_ble_eq_true rfl) q1855 rfl rfl rfl rfl dX5_codes_48 (fun H locs hT hS => ?_)
      obtain ⟨z7, ez7⟩ : ∃ y, y = ux z4 45 (nI 1) := ⟨_, rfl⟩
      rw [← ez7] at hT
      replace hw := hw z7 ez7
      refine lv_aload_n E.1 E.2.1 dX5_codes_51 rfl (lv_at hl 0 rfl) ?_
      refine lv_dup E.1 E.2.1 dX5_codes_52 rfl ?_
      refine tw_get E hK hT 47 (Nat.le_of_ble_eq_true rfl) q1857 rfl (v := .int (sx z7 47)) rfl dX5_codes_53 ?_
      refine lv_sipush (v := nI 1000) E.1 E.2.1 dX5_codes_56 rfl ?_
      refine lv_bipush (v := nI 100) E.1 E.2.1 dX5_codes_59 rfl ?_
      refine lv_iload_n E.1 E.2.1 dX5_codes_61 rfl (lv_at hl 1 rfl) ?_
      refine lv_bipush (v := nI 112) E.1 E.2.1 dX5_codes_62 rfl ?_
      refine lv_isub E.1 E.2.1 dX5_codes_64 ?_
      refine lv_imul E.1 E.2.1 dX5_codes_65 ?_
      refine lv_iadd E.1 E.2.1 dX5_codes_66 ?_
      refine lv_iadd E.1 E.2.1 dX5_codes_67 ?_
      refine tw_puti E hK hT hS 47 (Nat.le_of_ble_eq_true rfl) q1857 rfl rfl rfl rfl dX5_codes_68 (fun H locs hT hS => ?_)
      obtain ⟨z8, ez8⟩ : ∃ y, y = ux z7 47 ((sx z7 47) + ((nI 1000) + ((nI 100) * (i1 - (nI 112))))) := ⟨_, rfl⟩
      rw [← ez8] at hT
      replace hw := hw z8 ez8
      exact tw_vret E hr hlocks hT hS hw dX5_codes_71
  · replace hw := hw.2 (bi_n c3)
    refine lv_aload_n E.1 E.2.1 dX5_codes_11 rfl (lv_at hl 0 rfl) ?_
    refine lv_iconst (v := nI 1) E.1 E.2.1 dX5_codes_12 rfl ?_
    refine tw_puti E hK hT hS 45 (Nat.le_of_ble_eq_true rfl) q1855 rfl rfl rfl rfl dX5_codes_13 (fun H locs hT hS => ?_)
    obtain ⟨z9, ez9⟩ : ∃ y, y = ux z1 45 (nI 1) := ⟨_, rfl⟩
    rw [← ez9] at hT
    replace hw := hw z9 ez9
    refine lv_aload_n E.1 E.2.1 dX5_codes_16 rfl (lv_at hl 0 rfl) ?_
    refine lv_dup E.1 E.2.1 dX5_codes_17 rfl ?_
    refine tw_get E hK hT 47 (Nat.le_of_ble_eq_true rfl) q1857 rfl (v := .int (sx z9 47)) rfl dX5_codes_18 ?_
    refine lv_bipush (v := nI 100) E.1 E.2.1 dX5_codes_21 rfl ?_
    refine lv_iload_n E.1 E.2.1 dX5_codes_23 rfl (lv_at hl 1 rfl) ?_
    refine lv_bipush (v := nI 97) E.1 E.2.1 dX5_codes_24 rfl ?_
    refine lv_isub E.1 E.2.1 dX5_codes_26 ?_
    refine lv_imul E.1 E.2.1 dX5_codes_27 ?_
    refine lv_iadd E.1 E.2.1 dX5_codes_28 ?_
    refine tw_puti E hK hT hS 47 (Nat.le_of_ble_eq_true rfl) q1857 rfl rfl rfl rfl dX5_codes_29 (fun H locs hT hS => ?_)
    obtain ⟨z10, ez10⟩ : ∃ y, y = ux z9 47 ((sx z9 47) + ((nI 100) * (i1 - (nI 97)))) := ⟨_, rfl⟩
    rw [← ez10] at hT
    replace hw := hw z10 ez10
    refine lv_goto (tgt := 71) E.1 E.2.1 dX5_codes_32 (by decide) ?_
    exact tw_vret E hr hlocks hT hS hw dX5_codes_71
/-- runs(I)V -/
def wp_runs (post : TS → Prop) (z0 : TS) (i1 : Int32) : Prop := ∀ z1, z1 = uw z0 0 → ∀ z2, z2 = ux z1 47 (nI 0) → ∃ I3 : Nat → TS → Int32 → Int32 → Prop, (∃ n10, I3 n10 z2 (nI 0) i1) ∧ ∀ (n4 : Nat) (z5 : TS) (x8 : Int32) (x9 : Int32), I3 n4 z5 x8 x9 → ∃ J11 : TS → Prop, (∀ (z13 : TS), J11 z13  → ∃ J14 : TS → Int32 → Int32 → Prop, (∀ (z16 : TS) (x17 : Int32) (x18 : Int32), J14 z16 x17 x18 → ∃ J19 : TS → Prop, (∀ (z21 : TS), J19 z21  → ((nI 3) ≤ (x9 - i1) → ∃ n23, n23 < n4 ∧ I3 n23 z21 x17 (x9 + nI 1)) ∧ (¬ (nI 3) ≤ (x9 - i1) → wp_isDigit (fun b25 z24 => (b25 = false → ∃ n27, n27 < n4 ∧ I3 n27 z24 x17 (x9 + nI 1)) ∧ (b25 = true → ∀ z28, z28 = ux z24 47 ((((nI 10) * (sx z24 47)) + x18) - (nI 48)) → ∃ n29, n29 < n4 ∧ I3 n29 z28 x17 (x9 + nI 1))) z21 x18)) ∧ (((nI 8) ≤ (x9 - i1) → J19 z16 ) ∧ (¬ (nI 8) ≤ (x9 - i1) → ∀ z31, z31 = uw z16 ((256 * (sw z16)) + (x18.toInt64)) → J19 z31 ))) ∧ (wp_byteAt (fun r34 z33 => wp_isSmall (fun b36 z35 => (b36 = false → J14 z35 x8 r34) ∧ (b36 = true → J14 z35 (x8 + nI 1) r34)) z33 r34) z13 x9)) ∧ (wp_byteAt (fun r40 z39 => wp_isSmall (fun b42 z41 => (b42 = true → J11 z41 ) ∧ (b42 = false → wp_byteAt (fun r45 z44 => wp_isDigit (fun b47 z46 => (b47 = false → ∃ J49 : TS → Int32 → Prop, (∀ (z51 : TS) (x52 : Int32), J49 z51 x52 → ∃ J53 : TS → Prop, (∀ (z55 : TS), J53 z55  → (¬ x52 = (nI 3) → post z55) ∧ (x52 = (nI 3) → (¬ x8 = (nI 1) → post z55) ∧ (x8 = (nI 1) → vp_in (i1) 936 ∧ wp_isSmall (fun b59 z58 => (b59 = false → post z58) ∧ (b59 = true → vp_in (i1) 936 ∧ wp_codes (fun z61 => post z61) z58 (sf z58 0 i1.toNatClampNeg))) z55 (sf z55 0 i1.toNatClampNeg)))) ∧ ((¬ x8 = 0 → J53 z51 ) ∧ (x8 = 0 → ((nI 3) < x52 → J53 z51 ) ∧ (¬ (nI 3) < x52 → ∀ z64, z64 = ux z51 45 (nI 3) → J53 z64 )))) ∧ (∀ z66, z66 = ux z46 44 x9 → ∀ x67, x67 = x9 - i1 → (¬ x8 = x67 → J49 z66 x67) ∧ (x8 = x67 → ((nI 8) < x67 → J49 z66 x67) ∧ (¬ (nI 8) < x67 → ∀ z70, z70 = ux z66 45 (nI 2) → J49 z70 x67)))) ∧ (b47 = true → J11 z46 )) z44 r45) z41 x9)) z39 r40) z5 x9)
theorem hd_runs : yX5_runs.cls = RX5 ∧ yX5_runs.cls ≠ "java/lang/invoke/MethodHandle" ∧ yX5_runs.cls ≠ "java/lang/invoke/VarHandle" ∧ (parseMethodDescriptor yX5_runs.desc).map (fun d => d.parameters.length) = some 1 := by decide +kernel
set_option maxHeartbeats 4000000 in
theorem met_runs (l : Launch) (G : GP) (ta : Nat → Nat) (d : Nat) {post : TS → Prop} {z0 : TS} {i1 : Int32} (hw : wp_runs post z0 i1) : Met l yX5_runs (ws_ yX5_runs cX5_runs 5 none) (rmd (d + 2) 0 0) (tPc G ta z0 [.ref (ta 73), .int (i1)]) (tQv G ta post) 0 0 (TA ta) := by
  unfold wp_runs at hw
  refine tw_met (by decide) rfl (Nat.le_of_ble_eq_true rfl) ?_
  intro p e s m args below meth c ls E hr hlocks hK hT hS hl
  replace hl : lv_has ls 5 [(0, .ref (ta 73)), (1, .int (i1))] := hl
  refine lv_iconst (v := nI 0) E.1 E.2.1 dX5_runs_0 rfl ?_
  refine lv_istore_n (lv' := [(2, .int (nI 0)), (0, .ref (ta 73)), (1, .int (i1))]) E.1 E.2.1 dX5_runs_1 rfl hl (Nat.le_of_ble_eq_true rfl) rfl (fun ls hl => ?_)
  refine lv_iload_n E.1 E.2.1 dX5_runs_2 rfl (lv_at hl 2 rfl) ?_
  refine lv_istore_n (lv' := [(3, .int (i1)), (2, .int (nI 0)), (0, .ref (ta 73)), (1, .int (i1))]) E.1 E.2.1 dX5_runs_3 rfl hl (Nat.le_of_ble_eq_true rfl) rfl (fun ls hl => ?_)
  refine lv_aload_n E.1 E.2.1 dX5_runs_4 rfl (lv_at hl 2 rfl) ?_
  refine lv_lconst (v := 0) E.1 E.2.1 dX5_runs_5 rfl ?_
  refine tw_putl E hK hT hS q1856 dX5_runs_6 (fun H locs hT hS => ?_)
  obtain ⟨z1, ez1⟩ : ∃ y, y = uw z0 0 := ⟨_, rfl⟩
  rw [← ez1] at hT
  replace hw := hw z1 ez1
  refine lv_aload_n E.1 E.2.1 dX5_runs_9 rfl (lv_at hl 2 rfl) ?_
  refine lv_iconst (v := nI 0) E.1 E.2.1 dX5_runs_10 rfl ?_
  refine tw_puti E hK hT hS 47 (Nat.le_of_ble_eq_true rfl) q1857 rfl rfl rfl rfl dX5_runs_11 (fun H locs hT hS => ?_)
  obtain ⟨z2, ez2⟩ : ∃ y, y = ux z1 47 (nI 0) := ⟨_, rfl⟩
  rw [← ez2] at hT
  replace hw := hw z2 ez2
  obtain ⟨I3, ⟨n10, hi74⟩, hb73⟩ := hw
  have L7 : ∀ (n4 : Nat) (z5 : TS) (x8 : Int32) (x9 : Int32), I3 n4 z5 x8 x9 → ∀ (H : Heap) (locs : List Loc) (ls : Array Slot), TW G ta z5 H → va_S (TA ta) s.heap H locs → lv_has ls 5 [(0, .ref (ta 73)), (1, .int (i1)), (2, .int (x8)), (3, .int (x9))] → W p l e (rmd (d + 2) 0 0) s m args below meth c H locs 0 0 (MQ below (tQv G ta post) args s 0 0 (TA ta)) (F0 m 14 ls []) := by
    intro n4
    induction n4 using Nat.strongRecOn with
    | _ n4 ih6 =>
      intro z5 x8 x9 hw H locs ls hT hS hl
      replace hw := hb73 n4 z5 x8 x9 hw
      obtain ⟨J11, hj72, hw⟩ := hw
      have jh12 : ∀ (z13 : TS), J11 z13  → ∀ (H : Heap) (locs : List Loc) (ls : Array Slot), TW G ta z13 H → va_S (TA ta) s.heap H locs → lv_has ls 5 [(0, .ref (ta 73)), (1, .int (i1)), (2, .int (x8)), (3, .int (x9))] → W p l e (rmd (d + 2) 0 0) s m args below meth c H locs 0 0 (MQ below (tQv G ta post) args s 0 0 (TA ta)) (F0 m 36 ls []) := by
        intro z13 hw H locs ls hT hS hl
        replace hw := hj72 z13 hw
        obtain ⟨J14, hj38, hw⟩ := hw
        have jh15 : ∀ (z16 : TS) (x17 : Int32) (x18 : Int32), J14 z16 x17 x18 → ∀ (H : Heap) (locs : List Loc) (ls : Array Slot), TW G ta z16 H → va_S (TA ta) s.heap H locs → lv_has ls 5 [(0, .ref (ta 73)), (1, .int (i1)), (2, .int (x17)), (3, .int (x9)), (4, .int (x18))] → W p l e (rmd (d + 2) 0 0) s m args below meth c H locs 0 0 (MQ below (tQv G ta post) args s 0 0 (TA ta)) (F0 m 54 ls []) := by
          intro z16 x17 x18 hw H locs ls hT hS hl
          replace hw := hj38 z16 x17 x18 hw
          obtain ⟨J19, hj32, hw⟩ := hw
          have jh20 : ∀ (z21 : TS), J19 z21  → ∀ (H : Heap) (locs : List Loc) (ls : Array Slot), TW G ta z21 H → va_S (TA ta) s.heap H locs → lv_has ls 5 [(0, .ref (ta 73)), (1, .int (i1)), (2, .int (x17)), (3, .int (x9)), (4, .int (x18))] → W p l e (rmd (d + 2) 0 0) s m args below meth c H locs 0 0 (MQ below (tQv G ta post) args s 0 0 (TA ta)) (F0 m 78 ls []) := by
            intro z21 hw H locs ls hT hS hl
            replace hw := hj32 z21 hw
            refine lv_iload_n E.1 E.2.1 dX5_runs_78 rfl (lv_at hl 3 rfl) ?_
            refine lv_iload_n E.1 E.2.1 dX5_runs_79 rfl (lv_at hl 1 rfl) ?_
            refine lv_isub E.1 E.2.1 dX5_runs_80 ?_
            refine lv_iconst (v := nI 3) E.1 E.2.1 dX5_runs_81 rfl ?_
            refine lv_icmp_ge (tgt := 110) E.1 E.2.1 dX5_runs_82 (by decide) (fun c22 => ?_) (fun c22 => ?_)
            · replace hw := hw.1 (c22)
              refine lv_iinc (k := 3) (v := x9 + nI 1) (lv' := [(3, .int (x9 + nI 1)), (0, .ref (ta 73)), (1, .int (i1)), (2, .int (x17)), (4, .int (x18))]) E.1 E.2.1 dX5_runs_110 hl rfl rfl (Nat.le_of_ble_eq_true rfl) rfl (fun ls hl => ?_)
              refine lv_goto (tgt := 14) E.1 E.2.1 dX5_runs_113 (by decide) ?_
              obtain ⟨n23, hnn23, hin23⟩ := hw
              exact ih6 n23 hnn23 _ _ _ hin23 _ _ _ hT hS (lv_sub hl [1, 2, 3, 0] rfl)
            · replace hw := hw.2 (c22)
              refine lv_iload E.1 E.2.1 dX5_runs_85 (lv_at hl 4 rfl) ?_
              refine tw_callSz E hK hT hS (As := [.int (x18)]) (rest := []) (met_isDigit l G ta (d + 1) hw) (va_cwS 1 E.2.2.2.2 (lw_S q2066 q2067 q128 q2068) rfl rfl rfl hs_isDigit (rm_ok (by omega) (by decide))) rfl rfl hl.1 (Nat.le_of_ble_eq_true rfl) dX5_runs_87 (fun b25 z24 H locs hw hT hS => ?_)
              refine lv_if_eq (tgt := 110) E.1 E.2.1 dX5_runs_90 (by decide) (fun c26 => ?_) (fun c26 => ?_)
              · replace hw := hw.1 (bi_z c26)
                refine lv_iinc (k := 3) (v := x9 + nI 1) (lv' := [(3, .int (x9 + nI 1)), (0, .ref (ta 73)), (1, .int (i1)), (2, .int (x17)), (4, .int (x18))]) E.1 E.2.1 dX5_runs_110 hl rfl rfl (Nat.le_of_ble_eq_true rfl) rfl (fun ls hl => ?_)
                refine lv_goto (tgt := 14) E.1 E.2.1 dX5_runs_113 (by decide) ?_
                obtain ⟨n27, hnn27, hin27⟩ := hw
                exact ih6 n27 hnn27 _ _ _ hin27 _ _ _ hT hS (lv_sub hl [1, 2, 3, 0] rfl)
              · replace hw := hw.2 (bi_n c26)
                refine lv_aload_n E.1 E.2.1 dX5_runs_93 rfl (lv_at hl 0 rfl) ?_
                refine lv_bipush (v := nI 10) E.1 E.2.1 dX5_runs_94 rfl ?_
                refine lv_aload_n E.1 E.2.1 dX5_runs_96 rfl (lv_at hl 0 rfl) ?_
                refine tw_get E hK hT 47 (Nat.le_of_ble_eq_true rfl) q1857 rfl (v := .int (sx z24 47)) rfl dX5_runs_97 ?_
                refine lv_imul E.1 E.2.1 dX5_runs_100 ?_
                refine lv_iload E.1 E.2.1 dX5_runs_101 (lv_at hl 4 rfl) ?_
                refine lv_iadd E.1 E.2.1 dX5_runs_103 ?_
                refine lv_bipush (v := nI 48) E.1 E.2.1 dX5_runs_104 rfl ?_
                refine lv_isub E.1 E.2.1 dX5_runs_106 ?_
                refine tw_puti E hK hT hS 47 (Nat.le_of_ble_eq_true rfl) q1857 rfl rfl rfl rfl dX5_runs_107 (fun H locs hT hS => ?_)
                obtain ⟨z28, ez28⟩ : ∃ y, y = ux z24 47 ((((nI 10) * (sx z24 47)) + x18) - (nI 48)) := ⟨_, rfl⟩
                rw [← ez28] at hT
                replace hw := hw z28 ez28
                refine lv_iinc (k := 3) (v := x9 + nI 1) (lv' := [(3, .int (x9 + nI 1)), (0, .ref (ta 73)), (1, .int (i1)), (2, .int (x17)), (4, .int (x18))]) E.1 E.2.1 dX5_runs_110 hl rfl rfl (Nat.le_of_ble_eq_true rfl) rfl (fun ls hl => ?_)
                refine lv_goto (tgt := 14) E.1 E.2.1 dX5_runs_113 (by decide) ?_
                obtain ⟨n29, hnn29, hin29⟩ := hw
                exact ih6 n29 hnn29 _ _ _ hin29 _ _ _ hT hS (lv_sub hl [1, 2, 3, 0] rfl)
          refine lv_iload_n E.1 E.2.1 dX5_runs_54 rfl (lv_at hl 3 rfl) ?_
          refine lv_iload_n E.1 E.2.1 dX5_runs_55 rfl (lv_at hl 1 rfl) ?_
          refine lv_isub E.1 E.2.1 dX5_runs_56 ?_
          refine lv_bipush (v := nI 8) E.1 E.2.1 dX5_runs_57 rfl ?_
          refine lv_icmp_ge (tgt := 78) E.1 E.2.1 dX5_runs_59 (by decide) (fun c30 => ?_) (fun c30 => ?_)
          · replace hw := hw.1 (c30)
            exact jh20 _ hw _ _ _ hT hS (lv_sub hl [0, 1, 2, 3, 4] rfl)
          · replace hw := hw.2 (c30)
            refine lv_aload_n E.1 E.2.1 dX5_runs_62 rfl (lv_at hl 0 rfl) ?_
            refine lv_ldc2 (v := 256) E.1 E.2.1 E.2.2.2.1 (E.2.2.2.2 _ q2073) dX5_runs_63 ?_
            refine lv_aload_n E.1 E.2.1 dX5_runs_66 rfl (lv_at hl 0 rfl) ?_
            refine tw_get E hK hT 46 (Nat.le_of_ble_eq_true rfl) q1856 rfl (v := .long (sw z16)) rfl dX5_runs_67 ?_
            refine lv_lmul E.1 E.2.1 dX5_runs_70 ?_
            refine lv_iload E.1 E.2.1 dX5_runs_71 (lv_at hl 4 rfl) ?_
            refine lv_i2l E.1 E.2.1 dX5_runs_73 rfl ?_
            refine lv_ladd E.1 E.2.1 dX5_runs_74 ?_
            refine tw_putl E hK hT hS q1856 dX5_runs_75 (fun H locs hT hS => ?_)
            obtain ⟨z31, ez31⟩ : ∃ y, y = uw z16 ((256 * (sw z16)) + (x18.toInt64)) := ⟨_, rfl⟩
            rw [← ez31] at hT
            replace hw := hw z31 ez31
            exact jh20 _ hw _ _ _ hT hS (lv_sub hl [0, 1, 2, 3, 4] rfl)
        refine lv_aload_n E.1 E.2.1 dX5_runs_36 rfl (lv_at hl 0 rfl) ?_
        refine lv_iload_n E.1 E.2.1 dX5_runs_37 rfl (lv_at hl 3 rfl) ?_
        refine tw_callVi E hK hT hS (As := [.int (x9)]) (rest := []) (met_byteAt l G ta (d + 1) hw) (cwV 1 E.2.2.2.2 (lw_V q2059 q2061 qs60 q128 q2062) rfl rfl rfl hd_byteAt (rm_ok (by omega) (by decide))) rfl rfl hl.1 (Nat.le_of_ble_eq_true rfl) dX5_runs_38 (fun r34 z33 H locs hw hT hS => ?_)
        refine lv_istore (lv' := [(4, .int (r34)), (0, .ref (ta 73)), (1, .int (i1)), (2, .int (x8)), (3, .int (x9))]) E.1 E.2.1 dX5_runs_41 hl (Nat.le_of_ble_eq_true rfl) rfl (fun ls hl => ?_)
        refine lv_iload E.1 E.2.1 dX5_runs_43 (lv_at hl 0 rfl) ?_
        refine tw_callSz E hK hT hS (As := [.int (r34)]) (rest := []) (met_isSmall l G ta (d + 1) hw) (va_cwS 1 E.2.2.2.2 (lw_S q2063 q2064 q128 q2065) rfl rfl rfl hs_isSmall (rm_ok (by omega) (by decide))) rfl rfl hl.1 (Nat.le_of_ble_eq_true rfl) dX5_runs_45 (fun b36 z35 H locs hw hT hS => ?_)
        refine lv_if_eq (tgt := 54) E.1 E.2.1 dX5_runs_48 (by decide) (fun c37 => ?_) (fun c37 => ?_)
        · replace hw := hw.1 (bi_z c37)
          exact jh15 _ _ _ hw _ _ _ hT hS (lv_sub hl [1, 2, 3, 4, 0] rfl)
        · replace hw := hw.2 (bi_n c37)
          refine lv_iinc (k := 3) (v := x8 + nI 1) (lv' := [(2, .int (x8 + nI 1)), (4, .int (r34)), (0, .ref (ta 73)), (1, .int (i1)), (3, .int (x9))]) E.1 E.2.1 dX5_runs_51 hl rfl rfl (Nat.le_of_ble_eq_true rfl) rfl (fun ls hl => ?_)
          exact jh15 _ _ _ hw _ _ _ hT hS (lv_sub hl [2, 3, 0, 4, 1] rfl)
      refine lv_aload_n E.1 E.2.1 dX5_runs_14 rfl (lv_at hl 0 rfl) ?_
      refine lv_iload_n E.1 E.2.1 dX5_runs_15 rfl (lv_at hl 3 rfl) ?_
      refine tw_callVi E hK hT hS (As := [.int (x9)]) (rest := []) (met_byteAt l G ta (d + 1) hw) (cwV 1 E.2.2.2.2 (lw_V q2059 q2061 qs60 q128 q2062) rfl rfl rfl hd_byteAt (rm_ok (by omega) (by decide))) rfl rfl hl.1 (Nat.le_of_ble_eq_true rfl) dX5_runs_16 (fun r40 z39 H locs hw hT hS => ?_)
      refine tw_callSz E hK hT hS (As := [.int (r40)]) (rest := []) (met_isSmall l G ta (d + 1) hw) (va_cwS 1 E.2.2.2.2 (lw_S q2063 q2064 q128 q2065) rfl rfl rfl hs_isSmall (rm_ok (by omega) (by decide))) rfl rfl hl.1 (Nat.le_of_ble_eq_true rfl) dX5_runs_19 (fun b42 z41 H locs hw hT hS => ?_)
      refine lv_if_ne (tgt := 36) E.1 E.2.1 dX5_runs_22 (by decide) (fun c43 => ?_) (fun c43 => ?_)
      · replace hw := hw.1 (bi_n c43)
        exact jh12 _ hw _ _ _ hT hS (lv_sub hl [0, 1, 2, 3] rfl)
      · replace hw := hw.2 (bi_z c43)
        refine lv_aload_n E.1 E.2.1 dX5_runs_25 rfl (lv_at hl 0 rfl) ?_
        refine lv_iload_n E.1 E.2.1 dX5_runs_26 rfl (lv_at hl 3 rfl) ?_
        refine tw_callVi E hK hT hS (As := [.int (x9)]) (rest := []) (met_byteAt l G ta (d + 1) hw) (cwV 1 E.2.2.2.2 (lw_V q2059 q2061 qs60 q128 q2062) rfl rfl rfl hd_byteAt (rm_ok (by omega) (by decide))) rfl rfl hl.1 (Nat.le_of_ble_eq_true rfl) dX5_runs_27 (fun r45 z44 H locs hw hT hS => ?_)
        refine tw_callSz E hK hT hS (As := [.int (r45)]) (rest := []) (met_isDigit l G ta (d + 1) hw) (va_cwS 1 E.2.2.2.2 (lw_S q2066 q2067 q128 q2068) rfl rfl rfl hs_isDigit (rm_ok (by omega) (by decide))) rfl rfl hl.1 (Nat.le_of_ble_eq_true rfl) dX5_runs_30 (fun b47 z46 H locs hw hT hS => ?_)
        refine lv_if_eq (tgt := 116) E.1 E.2.1 dX5_runs_33 (by decide) (fun c48 => ?_) (fun c48 => ?_)
        · replace hw := hw.1 (bi_z c48)
          obtain ⟨J49, hj71, hw⟩ := hw
          have jh50 : ∀ (z51 : TS) (x52 : Int32), J49 z51 x52 → ∀ (H : Heap) (locs : List Loc) (ls : Array Slot), TW G ta z51 H → va_S (TA ta) s.heap H locs → lv_has ls 5 [(0, .ref (ta 73)), (1, .int (i1)), (2, .int (x8)), (4, .int (x52))] → W p l e (rmd (d + 2) 0 0) s m args below meth c H locs 0 0 (MQ below (tQv G ta post) args s 0 0 (TA ta)) (F0 m 144 ls []) := by
            intro z51 x52 hw H locs ls hT hS hl
            replace hw := hj71 z51 x52 hw
            obtain ⟨J53, hj65, hw⟩ := hw
            have jh54 : ∀ (z55 : TS), J53 z55  → ∀ (H : Heap) (locs : List Loc) (ls : Array Slot), TW G ta z55 H → va_S (TA ta) s.heap H locs → lv_has ls 5 [(0, .ref (ta 73)), (1, .int (i1)), (2, .int (x8)), (4, .int (x52))] → W p l e (rmd (d + 2) 0 0) s m args below meth c H locs 0 0 (MQ below (tQv G ta post) args s 0 0 (TA ta)) (F0 m 159 ls []) := by
              intro z55 hw H locs ls hT hS hl
              replace hw := hj65 z55 hw
              refine lv_iload E.1 E.2.1 dX5_runs_159 (lv_at hl 3 rfl) ?_
              refine lv_iconst (v := nI 3) E.1 E.2.1 dX5_runs_161 rfl ?_
              refine lv_icmp_ne (tgt := 192) E.1 E.2.1 dX5_runs_162 (by decide) (fun c56 => ?_) (fun c56 => ?_)
              · replace hw := hw.1 (c56)
                exact tw_vret E hr hlocks hT hS hw dX5_runs_192
              · replace hw := hw.2 (c56)
                refine lv_iload_n E.1 E.2.1 dX5_runs_165 rfl (lv_at hl 2 rfl) ?_
                refine lv_iconst (v := nI 1) E.1 E.2.1 dX5_runs_166 rfl ?_
                refine lv_icmp_ne (tgt := 192) E.1 E.2.1 dX5_runs_167 (by decide) (fun c57 => ?_) (fun c57 => ?_)
                · replace hw := hw.1 (c57)
                  exact tw_vret E hr hlocks hT hS hw dX5_runs_192
                · replace hw := hw.2 (c57)
                  refine lv_aload_n E.1 E.2.1 dX5_runs_170 rfl (lv_at hl 0 rfl) ?_
                  refine tw_get E hK hT 0 (Nat.le_of_ble_eq_true rfl) q1810 rfl (v := .ref (ta 0)) rfl dX5_runs_171 ?_
                  refine lv_iload_n E.1 E.2.1 dX5_runs_174 rfl (lv_at hl 1 rfl) ?_
                  obtain ⟨hin, hw⟩ := hw
                  refine tw_iald E hK hT 0 rfl hin dX5_runs_175 ?_
                  refine tw_callSz E hK hT hS (As := [.int (sf z55 0 i1.toNatClampNeg)]) (rest := []) (met_isSmall l G ta (d + 1) hw) (va_cwS 1 E.2.2.2.2 (lw_S q2063 q2064 q128 q2065) rfl rfl rfl hs_isSmall (rm_ok (by omega) (by decide))) rfl rfl hl.1 (Nat.le_of_ble_eq_true rfl) dX5_runs_176 (fun b59 z58 H locs hw hT hS => ?_)
                  refine lv_if_eq (tgt := 192) E.1 E.2.1 dX5_runs_179 (by decide) (fun c60 => ?_) (fun c60 => ?_)
                  · replace hw := hw.1 (bi_z c60)
                    exact tw_vret E hr hlocks hT hS hw dX5_runs_192
                  · replace hw := hw.2 (bi_n c60)
                    refine lv_aload_n E.1 E.2.1 dX5_runs_182 rfl (lv_at hl 0 rfl) ?_
                    refine lv_aload_n E.1 E.2.1 dX5_runs_183 rfl (lv_at hl 0 rfl) ?_
                    refine tw_get E hK hT 0 (Nat.le_of_ble_eq_true rfl) q1810 rfl (v := .ref (ta 0)) rfl dX5_runs_184 ?_
                    refine lv_iload_n E.1 E.2.1 dX5_runs_187 rfl (lv_at hl 1 rfl) ?_
                    obtain ⟨hin, hw⟩ := hw
                    refine tw_iald E hK hT 0 rfl hin dX5_runs_188 ?_
                    refine tw_callVv E hK hT hS (As := [.int (sf z58 0 i1.toNatClampNeg)]) (rest := []) (met_codes l G ta (d) hw) (cwV 1 E.2.2.2.2 (lw_V q2074 q2076 qs62 q128 q2077) rfl rfl rfl hd_codes (rm_ok (by omega) (by decide))) rfl rfl hl.1 (Nat.le_of_ble_eq_true rfl) dX5_runs_189 (fun z61 H locs hw hT hS => ?_)
                    exact tw_vret E hr hlocks hT hS hw dX5_runs_192
            refine lv_iload_n E.1 E.2.1 dX5_runs_144 rfl (lv_at hl 2 rfl) ?_
            refine lv_if_ne (tgt := 159) E.1 E.2.1 dX5_runs_145 (by decide) (fun c62 => ?_) (fun c62 => ?_)
            · replace hw := hw.1 (c62)
              exact jh54 _ hw _ _ _ hT hS (lv_sub hl [0, 1, 2, 3] rfl)
            · replace hw := hw.2 (c62)
              refine lv_iload E.1 E.2.1 dX5_runs_148 (lv_at hl 3 rfl) ?_
              refine lv_iconst (v := nI 3) E.1 E.2.1 dX5_runs_150 rfl ?_
              refine lv_icmp_gt (tgt := 159) E.1 E.2.1 dX5_runs_151 (by decide) (fun c63 => ?_) (fun c63 => ?_)
              · replace hw := hw.1 (c63)
                exact jh54 _ hw _ _ _ hT hS (lv_sub hl [0, 1, 2, 3] rfl)
              · replace hw := hw.2 (c63)
                refine lv_aload_n E.1 E.2.1 dX5_runs_154 rfl (lv_at hl 0 rfl) ?_
                refine lv_iconst (v := nI 3) E.1 E.2.1 dX5_runs_155 rfl ?_
                refine tw_puti E hK hT hS 45 (Nat.le_of_ble_eq_true rfl) q1855 rfl rfl rfl rfl dX5_runs_156 (fun H locs hT hS => ?_)
                obtain ⟨z64, ez64⟩ : ∃ y, y = ux z51 45 (nI 3) := ⟨_, rfl⟩
                rw [← ez64] at hT
                replace hw := hw z64 ez64
                exact jh54 _ hw _ _ _ hT hS (lv_sub hl [0, 1, 2, 3] rfl)
          refine lv_aload_n E.1 E.2.1 dX5_runs_116 rfl (lv_at hl 0 rfl) ?_
          refine lv_iload_n E.1 E.2.1 dX5_runs_117 rfl (lv_at hl 3 rfl) ?_
          refine tw_puti E hK hT hS 44 (Nat.le_of_ble_eq_true rfl) q1854 rfl rfl rfl rfl dX5_runs_118 (fun H locs hT hS => ?_)
          obtain ⟨z66, ez66⟩ : ∃ y, y = ux z46 44 x9 := ⟨_, rfl⟩
          rw [← ez66] at hT
          replace hw := hw z66 ez66
          refine lv_iload_n E.1 E.2.1 dX5_runs_121 rfl (lv_at hl 3 rfl) ?_
          refine lv_iload_n E.1 E.2.1 dX5_runs_122 rfl (lv_at hl 1 rfl) ?_
          refine lv_isub E.1 E.2.1 dX5_runs_123 ?_
          refine lv_topi (fun x67 ex67 => ?_)
          replace hw := hw x67 ex67
          refine lv_istore (lv' := [(4, .int (x67)), (0, .ref (ta 73)), (1, .int (i1)), (2, .int (x8)), (3, .int (x9))]) E.1 E.2.1 dX5_runs_124 hl (Nat.le_of_ble_eq_true rfl) rfl (fun ls hl => ?_)
          refine lv_iload_n E.1 E.2.1 dX5_runs_126 rfl (lv_at hl 3 rfl) ?_
          refine lv_iload E.1 E.2.1 dX5_runs_127 (lv_at hl 0 rfl) ?_
          refine lv_icmp_ne (tgt := 144) E.1 E.2.1 dX5_runs_129 (by decide) (fun c68 => ?_) (fun c68 => ?_)
          · replace hw := hw.1 (c68)
            exact jh50 _ _ hw _ _ _ hT hS (lv_sub hl [1, 2, 3, 0] rfl)
          · replace hw := hw.2 (c68)
            refine lv_iload E.1 E.2.1 dX5_runs_132 (lv_at hl 0 rfl) ?_
            refine lv_bipush (v := nI 8) E.1 E.2.1 dX5_runs_134 rfl ?_
            refine lv_icmp_gt (tgt := 144) E.1 E.2.1 dX5_runs_136 (by decide) (fun c69 => ?_) (fun c69 => ?_)
            · replace hw := hw.1 (c69)
              exact jh50 _ _ hw _ _ _ hT hS (lv_sub hl [1, 2, 3, 0] rfl)
            · replace hw := hw.2 (c69)
              refine lv_aload_n E.1 E.2.1 dX5_runs_139 rfl (lv_at hl 1 rfl) ?_
              refine lv_iconst (v := nI 2) E.1 E.2.1 dX5_runs_140 rfl ?_
              refine tw_puti E hK hT hS 45 (Nat.le_of_ble_eq_true rfl) q1855 rfl rfl rfl rfl dX5_runs_141 (fun H locs hT hS => ?_)
              obtain ⟨z70, ez70⟩ : ∃ y, y = ux z66 45 (nI 2) := ⟨_, rfl⟩
              rw [← ez70] at hT
              replace hw := hw z70 ez70
              exact jh50 _ _ hw _ _ _ hT hS (lv_sub hl [1, 2, 3, 0] rfl)
        · replace hw := hw.2 (bi_n c48)
          exact jh12 _ hw _ _ _ hT hS (lv_sub hl [0, 1, 2, 3] rfl)
  exact L7 n10 _ _ _ hi74 _ _ _ hT hS (lv_sub hl [2, 3, 1, 0] rfl)
/-- next()V -/
def wp_next (post : TS → Prop) (z0 : TS) : Prop := ((sx z0 48) ≤ 0 → ∀ x2, x2 = sx z0 44 → ∃ I3 : Nat → TS → Int32 → Prop, (∃ n9, I3 n9 z0 x2) ∧ ∀ (n4 : Nat) (z5 : TS) (x8 : Int32), I3 n4 z5 x8 → wp_byteAt (fun r11 z10 => (r11 = (nI 32) → ∃ n13, n13 < n4 ∧ I3 n13 z10 (x8 + nI 1)) ∧ (¬ r11 = (nI 32) → wp_byteAt (fun r15 z14 => (¬ r15 = (nI 10) → ∀ z17, z17 = ux z14 43 x8 → ∀ z18, z18 = ux z17 44 (x8 + (nI 1)) → wp_byteAt (fun r20 z19 => ∀ z21, z21 = ux z19 45 (nI 5) → ∀ z22, z22 = ux z21 47 r20 → (¬ r20 = ((-1)) → (r20 = (nI 40) → ∀ z25, z25 = ux z22 45 (nI 4) → post z25) ∧ (¬ r20 = (nI 40) → (r20 = (nI 41) → ∀ z27, z27 = ux z22 45 (nI 4) → post z27) ∧ (¬ r20 = (nI 41) → (r20 = (nI 44) → ∀ z29, z29 = ux z22 45 (nI 4) → post z29) ∧ (¬ r20 = (nI 44) → (r20 = (nI 59) → ∀ z31, z31 = ux z22 45 (nI 4) → post z31) ∧ (¬ r20 = (nI 59) → (r20 = (nI 60) → ∀ z33, z33 = ux z22 45 (nI 4) → post z33) ∧ (¬ r20 = (nI 60) → (¬ r20 = (nI 62) → ∃ J35 : TS → Prop, (∀ (z37 : TS), J35 z37  → wp_runs (fun z38 => post z38) z37 x8) ∧ (wp_isSmall (fun b40 z39 => (b40 = true → J35 z39 ) ∧ (b40 = false → wp_isDigit (fun b43 z42 => (b43 = false → post z42) ∧ (b43 = true → J35 z42 )) z39 r20)) z22 r20)) ∧ (r20 = (nI 62) → ∀ z46, z46 = ux z22 45 (nI 4) → post z46))))))) ∧ (r20 = ((-1)) → ∀ z47, z47 = ux z22 45 (nI 0) → ∀ z48, z48 = ux z47 44 x8 → post z48)) z18 x8) ∧ (r15 = (nI 10) → ∃ n49, n49 < n4 ∧ I3 n49 z14 (x8 + nI 1))) z10 x8)) z5 x8) ∧ (¬ (sx z0 48) ≤ 0 → post z0)
theorem hd_next : yX5_next.cls = RX5 ∧ yX5_next.cls ≠ "java/lang/invoke/MethodHandle" ∧ yX5_next.cls ≠ "java/lang/invoke/VarHandle" ∧ (parseMethodDescriptor yX5_next.desc).map (fun d => d.parameters.length) = some 0 := by decide +kernel
set_option maxHeartbeats 4000000 in
theorem met_next (l : Launch) (G : GP) (ta : Nat → Nat) (d : Nat) {post : TS → Prop} {z0 : TS} (hw : wp_next post z0) : Met l yX5_next (ws_ yX5_next cX5_next 3 none) (rmd (d + 3) 0 0) (tPc G ta z0 [.ref (ta 73)]) (tQv G ta post) 0 0 (TA ta) := by
  unfold wp_next at hw
  refine tw_met (by decide) rfl (Nat.le_of_ble_eq_true rfl) ?_
  intro p e s m args below meth c ls E hr hlocks hK hT hS hl
  replace hl : lv_has ls 3 [(0, .ref (ta 73))] := hl
  refine lv_aload_n E.1 E.2.1 dX5_next_0 rfl (lv_at hl 0 rfl) ?_
  refine tw_get E hK hT 48 (Nat.le_of_ble_eq_true rfl) q1858 rfl (v := .int (sx z0 48)) rfl dX5_next_1 ?_
  refine lv_if_le (tgt := 8) E.1 E.2.1 dX5_next_4 (by decide) (fun c1 => ?_) (fun c1 => ?_)
  · replace hw := hw.1 (c1)
    refine lv_aload_n E.1 E.2.1 dX5_next_8 rfl (lv_at hl 0 rfl) ?_
    refine tw_get E hK hT 44 (Nat.le_of_ble_eq_true rfl) q1854 rfl (v := .int (sx z0 44)) rfl dX5_next_9 ?_
    refine lv_topi (fun x2 ex2 => ?_)
    replace hw := hw x2 ex2
    refine lv_istore_n (lv' := [(1, .int (x2)), (0, .ref (ta 73))]) E.1 E.2.1 dX5_next_12 rfl hl (Nat.le_of_ble_eq_true rfl) rfl (fun ls hl => ?_)
    obtain ⟨I3, ⟨n9, hi51⟩, hb50⟩ := hw
    have L7 : ∀ (n4 : Nat) (z5 : TS) (x8 : Int32), I3 n4 z5 x8 → ∀ (H : Heap) (locs : List Loc) (ls : Array Slot), TW G ta z5 H → va_S (TA ta) s.heap H locs → lv_has ls 3 [(0, .ref (ta 73)), (1, .int (x8))] → W p l e (rmd (d + 3) 0 0) s m args below meth c H locs 0 0 (MQ below (tQv G ta post) args s 0 0 (TA ta)) (F0 m 13 ls []) := by
      intro n4
      induction n4 using Nat.strongRecOn with
      | _ n4 ih6 =>
        intro z5 x8 hw H locs ls hT hS hl
        replace hw := hb50 n4 z5 x8 hw
        refine lv_aload_n E.1 E.2.1 dX5_next_13 rfl (lv_at hl 0 rfl) ?_
        refine lv_iload_n E.1 E.2.1 dX5_next_14 rfl (lv_at hl 1 rfl) ?_
        refine tw_callVi E hK hT hS (As := [.int (x8)]) (rest := []) (met_byteAt l G ta (d + 2) hw) (cwV 1 E.2.2.2.2 (lw_V q2059 q2061 qs60 q128 q2062) rfl rfl rfl hd_byteAt (rm_ok (by omega) (by decide))) rfl rfl hl.1 (Nat.le_of_ble_eq_true rfl) dX5_next_15 (fun r11 z10 H locs hw hT hS => ?_)
        refine lv_bipush (v := nI 32) E.1 E.2.1 dX5_next_18 rfl ?_
        refine lv_icmp_eq (tgt := 33) E.1 E.2.1 dX5_next_20 (by decide) (fun c12 => ?_) (fun c12 => ?_)
        · replace hw := hw.1 (c12)
          refine lv_iinc (k := 1) (v := x8 + nI 1) (lv' := [(1, .int (x8 + nI 1)), (0, .ref (ta 73))]) E.1 E.2.1 dX5_next_33 hl rfl rfl (Nat.le_of_ble_eq_true rfl) rfl (fun ls hl => ?_)
          refine lv_goto (tgt := 13) E.1 E.2.1 dX5_next_36 (by decide) ?_
          obtain ⟨n13, hnn13, hin13⟩ := hw
          exact ih6 n13 hnn13 _ _ hin13 _ _ _ hT hS (lv_sub hl [1, 0] rfl)
        · replace hw := hw.2 (c12)
          refine lv_aload_n E.1 E.2.1 dX5_next_23 rfl (lv_at hl 0 rfl) ?_
          refine lv_iload_n E.1 E.2.1 dX5_next_24 rfl (lv_at hl 1 rfl) ?_
          refine tw_callVi E hK hT hS (As := [.int (x8)]) (rest := []) (met_byteAt l G ta (d + 2) hw) (cwV 1 E.2.2.2.2 (lw_V q2059 q2061 qs60 q128 q2062) rfl rfl rfl hd_byteAt (rm_ok (by omega) (by decide))) rfl rfl hl.1 (Nat.le_of_ble_eq_true rfl) dX5_next_25 (fun r15 z14 H locs hw hT hS => ?_)
          refine lv_bipush (v := nI 10) E.1 E.2.1 dX5_next_28 rfl ?_
          refine lv_icmp_ne (tgt := 39) E.1 E.2.1 dX5_next_30 (by decide) (fun c16 => ?_) (fun c16 => ?_)
          · replace hw := hw.1 (c16)
            refine lv_aload_n E.1 E.2.1 dX5_next_39 rfl (lv_at hl 0 rfl) ?_
            refine lv_iload_n E.1 E.2.1 dX5_next_40 rfl (lv_at hl 1 rfl) ?_
            refine tw_puti E hK hT hS 43 (Nat.le_of_ble_eq_true rfl) q1853 rfl rfl rfl rfl dX5_next_41 (fun H locs hT hS => ?_)
            obtain ⟨z17, ez17⟩ : ∃ y, y = ux z14 43 x8 := ⟨_, rfl⟩
            rw [← ez17] at hT
            replace hw := hw z17 ez17
            refine lv_aload_n E.1 E.2.1 dX5_next_44 rfl (lv_at hl 0 rfl) ?_
            refine lv_iload_n E.1 E.2.1 dX5_next_45 rfl (lv_at hl 1 rfl) ?_
            refine lv_iconst (v := nI 1) E.1 E.2.1 dX5_next_46 rfl ?_
            refine lv_iadd E.1 E.2.1 dX5_next_47 ?_
            refine tw_puti E hK hT hS 44 (Nat.le_of_ble_eq_true rfl) q1854 rfl rfl rfl rfl dX5_next_48 (fun H locs hT hS => ?_)
            obtain ⟨z18, ez18⟩ : ∃ y, y = ux z17 44 (x8 + (nI 1)) := ⟨_, rfl⟩
            rw [← ez18] at hT
            replace hw := hw z18 ez18
            refine lv_aload_n E.1 E.2.1 dX5_next_51 rfl (lv_at hl 0 rfl) ?_
            refine lv_iload_n E.1 E.2.1 dX5_next_52 rfl (lv_at hl 1 rfl) ?_
            refine tw_callVi E hK hT hS (As := [.int (x8)]) (rest := []) (met_byteAt l G ta (d + 2) hw) (cwV 1 E.2.2.2.2 (lw_V q2059 q2061 qs60 q128 q2062) rfl rfl rfl hd_byteAt (rm_ok (by omega) (by decide))) rfl rfl hl.1 (Nat.le_of_ble_eq_true rfl) dX5_next_53 (fun r20 z19 H locs hw hT hS => ?_)
            refine lv_istore_n (lv' := [(2, .int (r20)), (0, .ref (ta 73)), (1, .int (x8))]) E.1 E.2.1 dX5_next_56 rfl hl (Nat.le_of_ble_eq_true rfl) rfl (fun ls hl => ?_)
            refine lv_aload_n E.1 E.2.1 dX5_next_57 rfl (lv_at hl 1 rfl) ?_
            refine lv_iconst (v := nI 5) E.1 E.2.1 dX5_next_58 rfl ?_
            refine tw_puti E hK hT hS 45 (Nat.le_of_ble_eq_true rfl) q1855 rfl rfl rfl rfl dX5_next_59 (fun H locs hT hS => ?_)
            obtain ⟨z21, ez21⟩ : ∃ y, y = ux z19 45 (nI 5) := ⟨_, rfl⟩
            rw [← ez21] at hT
            replace hw := hw z21 ez21
            refine lv_aload_n E.1 E.2.1 dX5_next_62 rfl (lv_at hl 1 rfl) ?_
            refine lv_iload_n E.1 E.2.1 dX5_next_63 rfl (lv_at hl 0 rfl) ?_
            refine tw_puti E hK hT hS 47 (Nat.le_of_ble_eq_true rfl) q1857 rfl rfl rfl rfl dX5_next_64 (fun H locs hT hS => ?_)
            obtain ⟨z22, ez22⟩ : ∃ y, y = ux z21 47 r20 := ⟨_, rfl⟩
            rw [← ez22] at hT
            replace hw := hw z22 ez22
            refine lv_iload_n E.1 E.2.1 dX5_next_67 rfl (lv_at hl 0 rfl) ?_
            refine lv_iconst (v := (-1)) E.1 E.2.1 dX5_next_68 rfl ?_
            refine lv_icmp_ne (tgt := 85) E.1 E.2.1 dX5_next_69 (by decide) (fun c23 => ?_) (fun c23 => ?_)
            · replace hw := hw.1 (c23)
              refine lv_iload_n E.1 E.2.1 dX5_next_85 rfl (lv_at hl 0 rfl) ?_
              refine lv_bipush (v := nI 40) E.1 E.2.1 dX5_next_86 rfl ?_
              refine lv_icmp_eq (tgt := 121) E.1 E.2.1 dX5_next_88 (by decide) (fun c24 => ?_) (fun c24 => ?_)
              · replace hw := hw.1 (c24)
                refine lv_aload_n E.1 E.2.1 dX5_next_121 rfl (lv_at hl 1 rfl) ?_
                refine lv_iconst (v := nI 4) E.1 E.2.1 dX5_next_122 rfl ?_
                refine tw_puti E hK hT hS 45 (Nat.le_of_ble_eq_true rfl) q1855 rfl rfl rfl rfl dX5_next_123 (fun H locs hT hS => ?_)
                obtain ⟨z25, ez25⟩ : ∃ y, y = ux z22 45 (nI 4) := ⟨_, rfl⟩
                rw [← ez25] at hT
                replace hw := hw z25 ez25
                refine lv_goto (tgt := 148) E.1 E.2.1 dX5_next_126 (by decide) ?_
                exact tw_vret E hr hlocks hT hS hw dX5_next_148
              · replace hw := hw.2 (c24)
                refine lv_iload_n E.1 E.2.1 dX5_next_91 rfl (lv_at hl 0 rfl) ?_
                refine lv_bipush (v := nI 41) E.1 E.2.1 dX5_next_92 rfl ?_
                refine lv_icmp_eq (tgt := 121) E.1 E.2.1 dX5_next_94 (by decide) (fun c26 => ?_) (fun c26 => ?_)
                · replace hw := hw.1 (c26)
                  refine lv_aload_n E.1 E.2.1 dX5_next_121 rfl (lv_at hl 1 rfl) ?_
                  refine lv_iconst (v := nI 4) E.1 E.2.1 dX5_next_122 rfl ?_
                  refine tw_puti E hK hT hS 45 (Nat.le_of_ble_eq_true rfl) q1855 rfl rfl rfl rfl dX5_next_123 (fun H locs hT hS => ?_)
                  obtain ⟨z27, ez27⟩ : ∃ y, y = ux z22 45 (nI 4) := ⟨_, rfl⟩
                  rw [← ez27] at hT
                  replace hw := hw z27 ez27
                  refine lv_goto (tgt := 148) E.1 E.2.1 dX5_next_126 (by decide) ?_
                  exact tw_vret E hr hlocks hT hS hw dX5_next_148
                · replace hw := hw.2 (c26)
                  refine lv_iload_n E.1 E.2.1 dX5_next_97 rfl (lv_at hl 0 rfl) ?_
                  refine lv_bipush (v := nI 44) E.1 E.2.1 dX5_next_98 rfl ?_
                  refine lv_icmp_eq (tgt := 121) E.1 E.2.1 dX5_next_100 (by decide) (fun c28 => ?_) (fun c28 => ?_)
                  · replace hw := hw.1 (c28)
                    refine lv_aload_n E.1 E.2.1 dX5_next_121 rfl (lv_at hl 1 rfl) ?_
                    refine lv_iconst (v := nI 4) E.1 E.2.1 dX5_next_122 rfl ?_
                    refine tw_puti E hK hT hS 45 (Nat.le_of_ble_eq_true rfl) q1855 rfl rfl rfl rfl dX5_next_123 (fun H locs hT hS => ?_)
                    obtain ⟨z29, ez29⟩ : ∃ y, y = ux z22 45 (nI 4) := ⟨_, rfl⟩
                    rw [← ez29] at hT
                    replace hw := hw z29 ez29
                    refine lv_goto (tgt := 148) E.1 E.2.1 dX5_next_126 (by decide) ?_
                    exact tw_vret E hr hlocks hT hS hw dX5_next_148
                  · replace hw := hw.2 (c28)
                    refine lv_iload_n E.1 E.2.1 dX5_next_103 rfl (lv_at hl 0 rfl) ?_
                    refine lv_bipush (v := nI 59) E.1 E.2.1 dX5_next_104 rfl ?_
                    refine lv_icmp_eq (tgt := 121) E.1 E.2.1 dX5_next_106 (by decide) (fun c30 => ?_) (fun c30 => ?_)
                    · replace hw := hw.1 (c30)
                      refine lv_aload_n E.1 E.2.1 dX5_next_121 rfl (lv_at hl 1 rfl) ?_
                      refine lv_iconst (v := nI 4) E.1 E.2.1 dX5_next_122 rfl ?_
                      refine tw_puti E hK hT hS 45 (Nat.le_of_ble_eq_true rfl) q1855 rfl rfl rfl rfl dX5_next_123 (fun H locs hT hS => ?_)
                      obtain ⟨z31, ez31⟩ : ∃ y, y = ux z22 45 (nI 4) := ⟨_, rfl⟩
                      rw [← ez31] at hT
                      replace hw := hw z31 ez31
                      refine lv_goto (tgt := 148) E.1 E.2.1 dX5_next_126 (by decide) ?_
                      exact tw_vret E hr hlocks hT hS hw dX5_next_148
                    · replace hw := hw.2 (c30)
                      refine lv_iload_n E.1 E.2.1 dX5_next_109 rfl (lv_at hl 0 rfl) ?_
                      refine lv_bipush (v := nI 60) E.1 E.2.1 dX5_next_110 rfl ?_
                      refine lv_icmp_eq (tgt := 121) E.1 E.2.1 dX5_next_112 (by decide) (fun c32 => ?_) (fun c32 => ?_)
                      · replace hw := hw.1 (c32)
                        refine lv_aload_n E.1 E.2.1 dX5_next_121 rfl (lv_at hl 1 rfl) ?_
                        refine lv_iconst (v := nI 4) E.1 E.2.1 dX5_next_122 rfl ?_
                        refine tw_puti E hK hT hS 45 (Nat.le_of_ble_eq_true rfl) q1855 rfl rfl rfl rfl dX5_next_123 (fun H locs hT hS => ?_)
                        obtain ⟨z33, ez33⟩ : ∃ y, y = ux z22 45 (nI 4) := ⟨_, rfl⟩
                        rw [← ez33] at hT
                        replace hw := hw z33 ez33
                        refine lv_goto (tgt := 148) E.1 E.2.1 dX5_next_126 (by decide) ?_
                        exact tw_vret E hr hlocks hT hS hw dX5_next_148
                      · replace hw := hw.2 (c32)
                        refine lv_iload_n E.1 E.2.1 dX5_next_115 rfl (lv_at hl 0 rfl) ?_
                        refine lv_bipush (v := nI 62) E.1 E.2.1 dX5_next_116 rfl ?_
                        refine lv_icmp_ne (tgt := 129) E.1 E.2.1 dX5_next_118 (by decide) (fun c34 => ?_) (fun c34 => ?_)
                        · replace hw := hw.1 (c34)
                          obtain ⟨J35, hj45, hw⟩ := hw
                          have jh36 : ∀ (z37 : TS), J35 z37  → ∀ (H : Heap) (locs : List Loc) (ls : Array Slot), TW G ta z37 H → va_S (TA ta) s.heap H locs → lv_has ls 3 [(0, .ref (ta 73)), (1, .int (x8))] → W p l e (rmd (d + 3) 0 0) s m args below meth c H locs 0 0 (MQ below (tQv G ta post) args s 0 0 (TA ta)) (F0 m 143 ls []) := by
                            intro z37 hw H locs ls hT hS hl
                            replace hw := hj45 z37 hw
                            refine lv_aload_n E.1 E.2.1 dX5_next_143 rfl (lv_at hl 0 rfl) ?_
                            refine lv_iload_n E.1 E.2.1 dX5_next_144 rfl (lv_at hl 1 rfl) ?_
                            refine tw_callVv E hK hT hS (As := [.int (x8)]) (rest := []) (met_runs l G ta (d) hw) (cwV 1 E.2.2.2.2 (lw_V q2069 q2071 qs61 q128 q2072) rfl rfl rfl hd_runs (rm_ok (by omega) (by decide))) rfl rfl hl.1 (Nat.le_of_ble_eq_true rfl) dX5_next_145 (fun z38 H locs hw hT hS => ?_)
                            exact tw_vret E hr hlocks hT hS hw dX5_next_148
                          refine lv_iload_n E.1 E.2.1 dX5_next_129 rfl (lv_at hl 0 rfl) ?_
                          refine tw_callSz E hK hT hS (As := [.int (r20)]) (rest := []) (met_isSmall l G ta (d + 2) hw) (va_cwS 1 E.2.2.2.2 (lw_S q2063 q2064 q128 q2065) rfl rfl rfl hs_isSmall (rm_ok (by omega) (by decide))) rfl rfl hl.1 (Nat.le_of_ble_eq_true rfl) dX5_next_130 (fun b40 z39 H locs hw hT hS => ?_)
                          refine lv_if_ne (tgt := 143) E.1 E.2.1 dX5_next_133 (by decide) (fun c41 => ?_) (fun c41 => ?_)
                          · replace hw := hw.1 (bi_n c41)
                            exact jh36 _ hw _ _ _ hT hS (lv_sub hl [1, 2] rfl)
                          · replace hw := hw.2 (bi_z c41)
                            refine lv_iload_n E.1 E.2.1 dX5_next_136 rfl (lv_at hl 0 rfl) ?_
                            refine tw_callSz E hK hT hS (As := [.int (r20)]) (rest := []) (met_isDigit l G ta (d + 2) hw) (va_cwS 1 E.2.2.2.2 (lw_S q2066 q2067 q128 q2068) rfl rfl rfl hs_isDigit (rm_ok (by omega) (by decide))) rfl rfl hl.1 (Nat.le_of_ble_eq_true rfl) dX5_next_137 (fun b43 z42 H locs hw hT hS => ?_)
                            refine lv_if_eq (tgt := 148) E.1 E.2.1 dX5_next_140 (by decide) (fun c44 => ?_) (fun c44 => ?_)
                            · replace hw := hw.1 (bi_z c44)
                              exact tw_vret E hr hlocks hT hS hw dX5_next_148
                            · replace hw := hw.2 (bi_n c44)
                              exact jh36 _ hw _ _ _ hT hS (lv_sub hl [1, 2] rfl)
                        · replace hw := hw.2 (c34)
                          refine lv_aload_n E.1 E.2.1 dX5_next_121 rfl (lv_at hl 1 rfl) ?_
                          refine lv_iconst (v := nI 4) E.1 E.2.1 dX5_next_122 rfl ?_
                          refine tw_puti E hK hT hS 45 (Nat.le_of_ble_eq_true rfl) q1855 rfl rfl rfl rfl dX5_next_123 (fun H locs hT hS => ?_)
                          obtain ⟨z46, ez46⟩ : ∃ y, y = ux z22 45 (nI 4) := ⟨_, rfl⟩
                          rw [← ez46] at hT
                          replace hw := hw z46 ez46
                          refine lv_goto (tgt := 148) E.1 E.2.1 dX5_next_126 (by decide) ?_
                          exact tw_vret E hr hlocks hT hS hw dX5_next_148
            · replace hw := hw.2 (c23)
              refine lv_aload_n E.1 E.2.1 dX5_next_72 rfl (lv_at hl 1 rfl) ?_
              refine lv_iconst (v := nI 0) E.1 E.2.1 dX5_next_73 rfl ?_
              refine tw_puti E hK hT hS 45 (Nat.le_of_ble_eq_true rfl) q1855 rfl rfl rfl rfl dX5_next_74 (fun H locs hT hS => ?_)
              obtain ⟨z47, ez47⟩ : ∃ y, y = ux z22 45 (nI 0) := ⟨_, rfl⟩
              rw [← ez47] at hT
              replace hw := hw z47 ez47
              refine lv_aload_n E.1 E.2.1 dX5_next_77 rfl (lv_at hl 1 rfl) ?_
              refine lv_iload_n E.1 E.2.1 dX5_next_78 rfl (lv_at hl 2 rfl) ?_
              refine tw_puti E hK hT hS 44 (Nat.le_of_ble_eq_true rfl) q1854 rfl rfl rfl rfl dX5_next_79 (fun H locs hT hS => ?_)
              obtain ⟨z48, ez48⟩ : ∃ y, y = ux z47 44 x8 := ⟨_, rfl⟩
              rw [← ez48] at hT
              replace hw := hw z48 ez48
              refine lv_goto (tgt := 148) E.1 E.2.1 dX5_next_82 (by decide) ?_
              exact tw_vret E hr hlocks hT hS hw dX5_next_148
          · replace hw := hw.2 (c16)
            refine lv_iinc (k := 1) (v := x8 + nI 1) (lv' := [(1, .int (x8 + nI 1)), (0, .ref (ta 73))]) E.1 E.2.1 dX5_next_33 hl rfl rfl (Nat.le_of_ble_eq_true rfl) rfl (fun ls hl => ?_)
            refine lv_goto (tgt := 13) E.1 E.2.1 dX5_next_36 (by decide) ?_
            obtain ⟨n49, hnn49, hin49⟩ := hw
            exact ih6 n49 hnn49 _ _ hin49 _ _ _ hT hS (lv_sub hl [1, 0] rfl)
    exact L7 n9 _ _ hi51 _ _ _ hT hS (lv_sub hl [1, 0] rfl)
  · replace hw := hw.2 (c1)
    exact tw_vret E hr hlocks hT hS hw dX5_next_7
/-- isSort(IZ)Z -/
def wp_isSort (post : Bool → TS → Prop) (z0 : TS) (i0 : Int32) (o1 : Bool) : Prop := ∃ J1 : TS → Bool → Prop, (∀ (z3 : TS) (b4 : Bool), J1 z3 b4 → (¬ (bi b4) = (bi o1) → post false z3) ∧ ((bi b4) = (bi o1) → post true z3)) ∧ ((i0 < (nI 1000) → J1 z0 false) ∧ (¬ i0 < (nI 1000) → J1 z0 true))
theorem hs_isSort : yX5_isSort.cls ≠ "java/lang/invoke/MethodHandle" ∧ yX5_isSort.cls ≠ "java/lang/invoke/VarHandle" ∧ (parseMethodDescriptor yX5_isSort.desc).map (fun d => d.parameters.length) = some 2 := by decide +kernel
set_option maxHeartbeats 4000000 in
theorem met_isSort (l : Launch) (G : GP) (ta : Nat → Nat) (d : Nat) {post : Bool → TS → Prop} {z0 : TS} {i0 : Int32} {o1 : Bool} (hw : wp_isSort post z0 i0 o1) : Met l yX5_isSort (ws_ yX5_isSort cX5_isSort 2 (some .boolean)) (rmd (d + 0) 0 0) (tPc G ta z0 [.int (i0), .int (bi o1)]) (tQz G ta post) 0 0 (TA ta) := by
  unfold wp_isSort at hw
  refine tw_met (by decide) rfl (Nat.le_of_ble_eq_true rfl) ?_
  intro p e s m args below meth c ls E hr hlocks hK hT hS hl
  replace hl : lv_has ls 2 [(0, .int (i0)), (1, .int (bi o1))] := hl
  obtain ⟨J1, hj7, hw⟩ := hw
  have jh2 : ∀ (z3 : TS) (b4 : Bool), J1 z3 b4 → ∀ (H : Heap) (locs : List Loc) (ls : Array Slot), TW G ta z3 H → va_S (TA ta) s.heap H locs → lv_has ls 2 [(1, .int (bi o1))] → W p l e (rmd (d + 0) 0 0) s m args below meth c H locs 0 0 (MQ below (tQz G ta post) args s 0 0 (TA ta)) (F0 m 12 ls [.int (bi b4)]) := by
    intro z3 b4 hw H locs ls hT hS hl
    replace hw := hj7 z3 b4 hw
    refine lv_iload_n E.1 E.2.1 dX5_isSort_12 rfl (lv_at hl 0 rfl) ?_
    refine lv_icmp_ne (tgt := 20) E.1 E.2.1 dX5_isSort_13 (by decide) (fun c5 => ?_) (fun c5 => ?_)
    · replace hw := hw.1 (c5)
      refine lv_iconst (v := nI 0) E.1 E.2.1 dX5_isSort_20 rfl ?_
      exact tw_iretz (b := false) E hr hlocks hT hS rfl hw dX5_isSort_21
    · replace hw := hw.2 (c5)
      refine lv_iconst (v := nI 1) E.1 E.2.1 dX5_isSort_16 rfl ?_
      refine lv_goto (tgt := 21) E.1 E.2.1 dX5_isSort_17 (by decide) ?_
      exact tw_iretz (b := true) E hr hlocks hT hS rfl hw dX5_isSort_21
  refine lv_iload_n E.1 E.2.1 dX5_isSort_0 rfl (lv_at hl 0 rfl) ?_
  refine lv_sipush (v := nI 1000) E.1 E.2.1 dX5_isSort_1 rfl ?_
  refine lv_icmp_lt (tgt := 11) E.1 E.2.1 dX5_isSort_4 (by decide) (fun c6 => ?_) (fun c6 => ?_)
  · replace hw := hw.1 (c6)
    refine lv_iconst (v := nI 0) E.1 E.2.1 dX5_isSort_11 rfl ?_
    exact jh2 _ _ hw _ _ _ hT hS (lv_sub hl [1] rfl)
  · replace hw := hw.2 (c6)
    refine lv_iconst (v := nI 1) E.1 E.2.1 dX5_isSort_7 rfl ?_
    refine lv_goto (tgt := 12) E.1 E.2.1 dX5_isSort_8 (by decide) ?_
    exact jh2 _ _ hw _ _ _ hT hS (lv_sub hl [1] rfl)
/-- span(ZZ)V -/
def wp_span (post : TS → Prop) (z0 : TS) (o1 : Bool) (o2 : Bool) : Prop := ((sx z0 48) ≤ 0 → ∃ J2 : TS → Prop, (∀ (z4 : TS), J2 z4  → ∃ J5 : TS → Prop, (∀ (z7 : TS), J5 z7  → ∃ J8 : TS → Prop, (∀ (z10 : TS), J8 z10  → ∀ z11, z11 = ux z10 51 (sx z10 43) → ∀ z12, z12 = ux z11 49 (sx z11 47) → ∀ z13, z13 = ux z12 50 (sx z12 47) → wp_next (fun z14 => wp_isWord (fun b16 z15 => (b16 = true → ∃ J18 : TS → Prop, (∀ (z20 : TS), J18 z20  → ∃ J21 : TS → Prop, (∀ (z23 : TS), J21 z23  → ∀ z24, z24 = ux z23 50 (sx z23 47) → wp_next (fun z25 => post z25) z24) ∧ ((¬ (sx z20 48) = 0 → J21 z20 ) ∧ ((sx z20 48) = 0 → ∃ J27 : TS → Prop, (∀ (z29 : TS), J27 z29  → wp_wrong (fun z30 => J21 z30 ) z29 (nI 2)) ∧ (wp_isSort (fun b32 z31 => (b32 = false → J27 z31 ) ∧ (b32 = true → ((sx z31 49) ≤ (sx z31 47) → J21 z31 ) ∧ (¬ (sx z31 49) ≤ (sx z31 47) → J27 z31 ))) z20 (sx z20 47) o1)))) ∧ (wp_next (fun z37 => (¬ (sx z37 48) = 0 → J18 z37 ) ∧ ((sx z37 48) = 0 → ((sx z37 45) = (nI 1) → J18 z37 ) ∧ (¬ (sx z37 45) = (nI 1) → wp_wrong (fun z40 => J18 z40 ) z37 (nI 1)))) z15)) ∧ (b16 = false → post z15)) z14 17) z13) ∧ ((o2 = false → J8 z7 ) ∧ (o2 = true → wp_wrong (fun z43 => J8 z43 ) z7 (nI 4)))) ∧ ((¬ (sx z4 48) = 0 → J5 z4 ) ∧ ((sx z4 48) = 0 → wp_isSort (fun b47 z46 => (b47 = true → J5 z46 ) ∧ (b47 = false → wp_wrong (fun z49 => J5 z49 ) z46 (nI 2))) z4 (sx z4 47) o1))) ∧ (((sx z0 45) = (nI 1) → J2 z0 ) ∧ (¬ (sx z0 45) = (nI 1) → wp_wrong (fun z52 => J2 z52 ) z0 (nI 1)))) ∧ (¬ (sx z0 48) ≤ 0 → post z0)
theorem hd_span : yX5_span.cls = RX5 ∧ yX5_span.cls ≠ "java/lang/invoke/MethodHandle" ∧ yX5_span.cls ≠ "java/lang/invoke/VarHandle" ∧ (parseMethodDescriptor yX5_span.desc).map (fun d => d.parameters.length) = some 2 := by decide +kernel
set_option maxHeartbeats 4000000 in
theorem met_span (l : Launch) (G : GP) (ta : Nat → Nat) (d : Nat) {post : TS → Prop} {z0 : TS} {o1 : Bool} {o2 : Bool} (hw : wp_span post z0 o1 o2) : Met l yX5_span (ws_ yX5_span cX5_span 3 none) (rmd (d + 8) 0 0) (tPc G ta z0 [.ref (ta 73), .int (bi o1), .int (bi o2)]) (tQv G ta post) 0 0 (TA ta) := by
  unfold wp_span at hw
  refine tw_met (by decide) rfl (Nat.le_of_ble_eq_true rfl) ?_
  intro p e s m args below meth c ls E hr hlocks hK hT hS hl
  replace hl : lv_has ls 3 [(0, .ref (ta 73)), (1, .int (bi o1)), (2, .int (bi o2))] := hl
  refine lv_aload_n E.1 E.2.1 dX5_span_0 rfl (lv_at hl 0 rfl) ?_
  refine tw_get E hK hT 48 (Nat.le_of_ble_eq_true rfl) q1858 rfl (v := .int (sx z0 48)) rfl dX5_span_1 ?_
  refine lv_if_le (tgt := 8) E.1 E.2.1 dX5_span_4 (by decide) (fun c1 => ?_) (fun c1 => ?_)
  · replace hw := hw.1 (c1)
    obtain ⟨J2, hj53, hw⟩ := hw
    have jh3 : ∀ (z4 : TS), J2 z4  → ∀ (H : Heap) (locs : List Loc) (ls : Array Slot), TW G ta z4 H → va_S (TA ta) s.heap H locs → lv_has ls 3 [(0, .ref (ta 73)), (1, .int (bi o1)), (2, .int (bi o2))] → W p l e (rmd (d + 8) 0 0) s m args below meth c H locs 0 0 (MQ below (tQv G ta post) args s 0 0 (TA ta)) (F0 m 21 ls []) := by
      intro z4 hw H locs ls hT hS hl
      replace hw := hj53 z4 hw
      obtain ⟨J5, hj50, hw⟩ := hw
      have jh6 : ∀ (z7 : TS), J5 z7  → ∀ (H : Heap) (locs : List Loc) (ls : Array Slot), TW G ta z7 H → va_S (TA ta) s.heap H locs → lv_has ls 3 [(0, .ref (ta 73)), (1, .int (bi o1)), (2, .int (bi o2))] → W p l e (rmd (d + 8) 0 0) s m args below meth c H locs 0 0 (MQ below (tQv G ta post) args s 0 0 (TA ta)) (F0 m 44 ls []) := by
        intro z7 hw H locs ls hT hS hl
        replace hw := hj50 z7 hw
        obtain ⟨J8, hj44, hw⟩ := hw
        have jh9 : ∀ (z10 : TS), J8 z10  → ∀ (H : Heap) (locs : List Loc) (ls : Array Slot), TW G ta z10 H → va_S (TA ta) s.heap H locs → lv_has ls 3 [(0, .ref (ta 73)), (1, .int (bi o1))] → W p l e (rmd (d + 8) 0 0) s m args below meth c H locs 0 0 (MQ below (tQv G ta post) args s 0 0 (TA ta)) (F0 m 53 ls []) := by
          intro z10 hw H locs ls hT hS hl
          replace hw := hj44 z10 hw
          refine lv_aload_n E.1 E.2.1 dX5_span_53 rfl (lv_at hl 0 rfl) ?_
          refine lv_aload_n E.1 E.2.1 dX5_span_54 rfl (lv_at hl 0 rfl) ?_
          refine tw_get E hK hT 43 (Nat.le_of_ble_eq_true rfl) q1853 rfl (v := .int (sx z10 43)) rfl dX5_span_55 ?_
          refine tw_puti E hK hT hS 51 (Nat.le_of_ble_eq_true rfl) q1861 rfl rfl rfl rfl dX5_span_58 (fun H locs hT hS => ?_)
          obtain ⟨z11, ez11⟩ : ∃ y, y = ux z10 51 (sx z10 43) := ⟨_, rfl⟩
          rw [← ez11] at hT
          replace hw := hw z11 ez11
          refine lv_aload_n E.1 E.2.1 dX5_span_61 rfl (lv_at hl 0 rfl) ?_
          refine lv_aload_n E.1 E.2.1 dX5_span_62 rfl (lv_at hl 0 rfl) ?_
          refine tw_get E hK hT 47 (Nat.le_of_ble_eq_true rfl) q1857 rfl (v := .int (sx z11 47)) rfl dX5_span_63 ?_
          refine tw_puti E hK hT hS 49 (Nat.le_of_ble_eq_true rfl) q1859 rfl rfl rfl rfl dX5_span_66 (fun H locs hT hS => ?_)
          obtain ⟨z12, ez12⟩ : ∃ y, y = ux z11 49 (sx z11 47) := ⟨_, rfl⟩
          rw [← ez12] at hT
          replace hw := hw z12 ez12
          refine lv_aload_n E.1 E.2.1 dX5_span_69 rfl (lv_at hl 0 rfl) ?_
          refine lv_aload_n E.1 E.2.1 dX5_span_70 rfl (lv_at hl 0 rfl) ?_
          refine tw_get E hK hT 47 (Nat.le_of_ble_eq_true rfl) q1857 rfl (v := .int (sx z12 47)) rfl dX5_span_71 ?_
          refine tw_puti E hK hT hS 50 (Nat.le_of_ble_eq_true rfl) q1860 rfl rfl rfl rfl dX5_span_74 (fun H locs hT hS => ?_)
          obtain ⟨z13, ez13⟩ : ∃ y, y = ux z12 50 (sx z12 47) := ⟨_, rfl⟩
          rw [← ez13] at hT
          replace hw := hw z13 ez13
          refine lv_aload_n E.1 E.2.1 dX5_span_77 rfl (lv_at hl 0 rfl) ?_
          refine tw_callVv E hK hT hS (As := []) (rest := []) (met_next l G ta (d + 4) hw) (cwV 0 E.2.2.2.2 (lw_V q2055 q2057 qs59 q128 q2058) rfl rfl rfl hd_next (rm_ok (by omega) (by decide))) rfl rfl hl.1 (Nat.le_of_ble_eq_true rfl) dX5_span_78 (fun z14 H locs hw hT hS => ?_)
          refine lv_aload_n E.1 E.2.1 dX5_span_81 rfl (lv_at hl 0 rfl) ?_
          refine tw_ldcSw E hK 47 17 rfl dX5_span_82 ?_
          refine tw_callVz E hK hT hS (As := [.ref (gK G 17)]) (rest := []) (met_isWord l G ta (d) hw) (cwV 1 E.2.2.2.2 (lw_V q2079 q2081 qs63 q128 q2082) rfl rfl rfl hd_isWord (rm_ok (by omega) (by decide))) rfl rfl hl.1 (Nat.le_of_ble_eq_true rfl) dX5_span_85 (fun b16 z15 H locs hw hT hS => ?_)
          refine lv_if_ne (tgt := 92) E.1 E.2.1 dX5_span_88 (by decide) (fun c17 => ?_) (fun c17 => ?_)
          · replace hw := hw.1 (bi_n c17)
            obtain ⟨J18, hj41, hw⟩ := hw
            have jh19 : ∀ (z20 : TS), J18 z20  → ∀ (H : Heap) (locs : List Loc) (ls : Array Slot), TW G ta z20 H → va_S (TA ta) s.heap H locs → lv_has ls 3 [(0, .ref (ta 73)), (1, .int (bi o1))] → W p l e (rmd (d + 8) 0 0) s m args below meth c H locs 0 0 (MQ below (tQv G ta post) args s 0 0 (TA ta)) (F0 m 116 ls []) := by
              intro z20 hw H locs ls hT hS hl
              replace hw := hj41 z20 hw
              obtain ⟨J21, hj36, hw⟩ := hw
              have jh22 : ∀ (z23 : TS), J21 z23  → ∀ (H : Heap) (locs : List Loc) (ls : Array Slot), TW G ta z23 H → va_S (TA ta) s.heap H locs → lv_has ls 3 [(0, .ref (ta 73))] → W p l e (rmd (d + 8) 0 0) s m args below meth c H locs 0 0 (MQ below (tQv G ta post) args s 0 0 (TA ta)) (F0 m 150 ls []) := by
                intro z23 hw H locs ls hT hS hl
                replace hw := hj36 z23 hw
                refine lv_aload_n E.1 E.2.1 dX5_span_150 rfl (lv_at hl 0 rfl) ?_
                refine lv_aload_n E.1 E.2.1 dX5_span_151 rfl (lv_at hl 0 rfl) ?_
                refine tw_get E hK hT 47 (Nat.le_of_ble_eq_true rfl) q1857 rfl (v := .int (sx z23 47)) rfl dX5_span_152 ?_
                refine tw_puti E hK hT hS 50 (Nat.le_of_ble_eq_true rfl) q1860 rfl rfl rfl rfl dX5_span_155 (fun H locs hT hS => ?_)
                obtain ⟨z24, ez24⟩ : ∃ y, y = ux z23 50 (sx z23 47) := ⟨_, rfl⟩
                rw [← ez24] at hT
                replace hw := hw z24 ez24
                refine lv_aload_n E.1 E.2.1 dX5_span_158 rfl (lv_at hl 0 rfl) ?_
                refine tw_callVv E hK hT hS (As := []) (rest := []) (met_next l G ta (d + 4) hw) (cwV 0 E.2.2.2.2 (lw_V q2055 q2057 qs59 q128 q2058) rfl rfl rfl hd_next (rm_ok (by omega) (by decide))) rfl rfl hl.1 (Nat.le_of_ble_eq_true rfl) dX5_span_159 (fun z25 H locs hw hT hS => ?_)
                exact tw_vret E hr hlocks hT hS hw dX5_span_162
              refine lv_aload_n E.1 E.2.1 dX5_span_116 rfl (lv_at hl 0 rfl) ?_
              refine tw_get E hK hT 48 (Nat.le_of_ble_eq_true rfl) q1858 rfl (v := .int (sx z20 48)) rfl dX5_span_117 ?_
              refine lv_if_ne (tgt := 150) E.1 E.2.1 dX5_span_120 (by decide) (fun c26 => ?_) (fun c26 => ?_)
              · replace hw := hw.1 (c26)
                exact jh22 _ hw _ _ _ hT hS (lv_sub hl [0] rfl)
              · replace hw := hw.2 (c26)
                obtain ⟨J27, hj35, hw⟩ := hw
                have jh28 : ∀ (z29 : TS), J27 z29  → ∀ (H : Heap) (locs : List Loc) (ls : Array Slot), TW G ta z29 H → va_S (TA ta) s.heap H locs → lv_has ls 3 [(0, .ref (ta 73))] → W p l e (rmd (d + 8) 0 0) s m args below meth c H locs 0 0 (MQ below (tQv G ta post) args s 0 0 (TA ta)) (F0 m 145 ls []) := by
                  intro z29 hw H locs ls hT hS hl
                  replace hw := hj35 z29 hw
                  refine lv_aload_n E.1 E.2.1 dX5_span_145 rfl (lv_at hl 0 rfl) ?_
                  refine lv_iconst (v := nI 2) E.1 E.2.1 dX5_span_146 rfl ?_
                  refine tw_callVv E hK hT hS (As := [.int (nI 2)]) (rest := []) (met_wrong l G ta (d + 6) hw) (cwV 1 E.2.2.2.2 (lw_V q2113 q2115 qs66 q128 q2116) rfl rfl rfl hd_wrong (rm_ok (by omega) (by decide))) rfl rfl hl.1 (Nat.le_of_ble_eq_true rfl) dX5_span_147 (fun z30 H locs hw hT hS => ?_)
                  exact jh22 _ hw _ _ _ hT hS (lv_sub hl [0] rfl)
                refine lv_aload_n E.1 E.2.1 dX5_span_123 rfl (lv_at hl 0 rfl) ?_
                refine tw_get E hK hT 47 (Nat.le_of_ble_eq_true rfl) q1857 rfl (v := .int (sx z20 47)) rfl dX5_span_124 ?_
                refine lv_iload_n E.1 E.2.1 dX5_span_127 rfl (lv_at hl 1 rfl) ?_
                refine tw_callSz E hK hT hS (As := [.int (sx z20 47), .int (bi o1)]) (rest := []) (met_isSort l G ta (d + 7) hw) (va_cwS 2 E.2.2.2.2 (lw_S q2156 q2157 q128 q2158) rfl rfl rfl hs_isSort (rm_ok (by omega) (by decide))) rfl rfl hl.1 (Nat.le_of_ble_eq_true rfl) dX5_span_128 (fun b32 z31 H locs hw hT hS => ?_)
                refine lv_if_eq (tgt := 145) E.1 E.2.1 dX5_span_131 (by decide) (fun c33 => ?_) (fun c33 => ?_)
                · replace hw := hw.1 (bi_z c33)
                  exact jh28 _ hw _ _ _ hT hS (lv_sub hl [0] rfl)
                · replace hw := hw.2 (bi_n c33)
                  refine lv_aload_n E.1 E.2.1 dX5_span_134 rfl (lv_at hl 0 rfl) ?_
                  refine tw_get E hK hT 47 (Nat.le_of_ble_eq_true rfl) q1857 rfl (v := .int (sx z31 47)) rfl dX5_span_135 ?_
                  refine lv_aload_n E.1 E.2.1 dX5_span_138 rfl (lv_at hl 0 rfl) ?_
                  refine tw_get E hK hT 49 (Nat.le_of_ble_eq_true rfl) q1859 rfl (v := .int (sx z31 49)) rfl dX5_span_139 ?_
                  refine lv_icmp_ge (tgt := 150) E.1 E.2.1 dX5_span_142 (by decide) (fun c34 => ?_) (fun c34 => ?_)
                  · replace hw := hw.1 (c34)
                    exact jh22 _ hw _ _ _ hT hS (lv_sub hl [0] rfl)
                  · replace hw := hw.2 (c34)
                    exact jh28 _ hw _ _ _ hT hS (lv_sub hl [0] rfl)
            refine lv_aload_n E.1 E.2.1 dX5_span_92 rfl (lv_at hl 0 rfl) ?_
            refine tw_callVv E hK hT hS (As := []) (rest := []) (met_next l G ta (d + 4) hw) (cwV 0 E.2.2.2.2 (lw_V q2055 q2057 qs59 q128 q2058) rfl rfl rfl hd_next (rm_ok (by omega) (by decide))) rfl rfl hl.1 (Nat.le_of_ble_eq_true rfl) dX5_span_93 (fun z37 H locs hw hT hS => ?_)
            refine lv_aload_n E.1 E.2.1 dX5_span_96 rfl (lv_at hl 0 rfl) ?_
            refine tw_get E hK hT 48 (Nat.le_of_ble_eq_true rfl) q1858 rfl (v := .int (sx z37 48)) rfl dX5_span_97 ?_
            refine lv_if_ne (tgt := 116) E.1 E.2.1 dX5_span_100 (by decide) (fun c38 => ?_) (fun c38 => ?_)
            · replace hw := hw.1 (c38)
              exact jh19 _ hw _ _ _ hT hS (lv_sub hl [0, 1] rfl)
            · replace hw := hw.2 (c38)
              refine lv_aload_n E.1 E.2.1 dX5_span_103 rfl (lv_at hl 0 rfl) ?_
              refine tw_get E hK hT 45 (Nat.le_of_ble_eq_true rfl) q1855 rfl (v := .int (sx z37 45)) rfl dX5_span_104 ?_
              refine lv_iconst (v := nI 1) E.1 E.2.1 dX5_span_107 rfl ?_
              refine lv_icmp_eq (tgt := 116) E.1 E.2.1 dX5_span_108 (by decide) (fun c39 => ?_) (fun c39 => ?_)
              · replace hw := hw.1 (c39)
                exact jh19 _ hw _ _ _ hT hS (lv_sub hl [0, 1] rfl)
              · replace hw := hw.2 (c39)
                refine lv_aload_n E.1 E.2.1 dX5_span_111 rfl (lv_at hl 0 rfl) ?_
                refine lv_iconst (v := nI 1) E.1 E.2.1 dX5_span_112 rfl ?_
                refine tw_callVv E hK hT hS (As := [.int (nI 1)]) (rest := []) (met_wrong l G ta (d + 6) hw) (cwV 1 E.2.2.2.2 (lw_V q2113 q2115 qs66 q128 q2116) rfl rfl rfl hd_wrong (rm_ok (by omega) (by decide))) rfl rfl hl.1 (Nat.le_of_ble_eq_true rfl) dX5_span_113 (fun z40 H locs hw hT hS => ?_)
                exact jh19 _ hw _ _ _ hT hS (lv_sub hl [0, 1] rfl)
          · replace hw := hw.2 (bi_z c17)
            exact tw_vret E hr hlocks hT hS hw dX5_span_91
        refine lv_iload_n E.1 E.2.1 dX5_span_44 rfl (lv_at hl 2 rfl) ?_
        refine lv_if_eq (tgt := 53) E.1 E.2.1 dX5_span_45 (by decide) (fun c42 => ?_) (fun c42 => ?_)
        · replace hw := hw.1 (bi_z c42)
          exact jh9 _ hw _ _ _ hT hS (lv_sub hl [0, 1] rfl)
        · replace hw := hw.2 (bi_n c42)
          refine lv_aload_n E.1 E.2.1 dX5_span_48 rfl (lv_at hl 0 rfl) ?_
          refine lv_iconst (v := nI 4) E.1 E.2.1 dX5_span_49 rfl ?_
          refine tw_callVv E hK hT hS (As := [.int (nI 4)]) (rest := []) (met_wrong l G ta (d + 6) hw) (cwV 1 E.2.2.2.2 (lw_V q2113 q2115 qs66 q128 q2116) rfl rfl rfl hd_wrong (rm_ok (by omega) (by decide))) rfl rfl hl.1 (Nat.le_of_ble_eq_true rfl) dX5_span_50 (fun z43 H locs hw hT hS => ?_)
          exact jh9 _ hw _ _ _ hT hS (lv_sub hl [0, 1] rfl)
      refine lv_aload_n E.1 E.2.1 dX5_span_21 rfl (lv_at hl 0 rfl) ?_
      refine tw_get E hK hT 48 (Nat.le_of_ble_eq_true rfl) q1858 rfl (v := .int (sx z4 48)) rfl dX5_span_22 ?_
      refine lv_if_ne (tgt := 44) E.1 E.2.1 dX5_span_25 (by decide) (fun c45 => ?_) (fun c45 => ?_)
      · replace hw := hw.1 (c45)
        exact jh6 _ hw _ _ _ hT hS (lv_sub hl [0, 1, 2] rfl)
      · replace hw := hw.2 (c45)
        refine lv_aload_n E.1 E.2.1 dX5_span_28 rfl (lv_at hl 0 rfl) ?_
        refine tw_get E hK hT 47 (Nat.le_of_ble_eq_true rfl) q1857 rfl (v := .int (sx z4 47)) rfl dX5_span_29 ?_
        refine lv_iload_n E.1 E.2.1 dX5_span_32 rfl (lv_at hl 1 rfl) ?_
        refine tw_callSz E hK hT hS (As := [.int (sx z4 47), .int (bi o1)]) (rest := []) (met_isSort l G ta (d + 7) hw) (va_cwS 2 E.2.2.2.2 (lw_S q2156 q2157 q128 q2158) rfl rfl rfl hs_isSort (rm_ok (by omega) (by decide))) rfl rfl hl.1 (Nat.le_of_ble_eq_true rfl) dX5_span_33 (fun b47 z46 H locs hw hT hS => ?_)
        refine lv_if_ne (tgt := 44) E.1 E.2.1 dX5_span_36 (by decide) (fun c48 => ?_) (fun c48 => ?_)
        · replace hw := hw.1 (bi_n c48)
          exact jh6 _ hw _ _ _ hT hS (lv_sub hl [0, 1, 2] rfl)
        · replace hw := hw.2 (bi_z c48)
          refine lv_aload_n E.1 E.2.1 dX5_span_39 rfl (lv_at hl 0 rfl) ?_
          refine lv_iconst (v := nI 2) E.1 E.2.1 dX5_span_40 rfl ?_
          refine tw_callVv E hK hT hS (As := [.int (nI 2)]) (rest := []) (met_wrong l G ta (d + 6) hw) (cwV 1 E.2.2.2.2 (lw_V q2113 q2115 qs66 q128 q2116) rfl rfl rfl hd_wrong (rm_ok (by omega) (by decide))) rfl rfl hl.1 (Nat.le_of_ble_eq_true rfl) dX5_span_41 (fun z49 H locs hw hT hS => ?_)
          exact jh6 _ hw _ _ _ hT hS (lv_sub hl [0, 1, 2] rfl)
    refine lv_aload_n E.1 E.2.1 dX5_span_8 rfl (lv_at hl 0 rfl) ?_
    refine tw_get E hK hT 45 (Nat.le_of_ble_eq_true rfl) q1855 rfl (v := .int (sx z0 45)) rfl dX5_span_9 ?_
    refine lv_iconst (v := nI 1) E.1 E.2.1 dX5_span_12 rfl ?_
    refine lv_icmp_eq (tgt := 21) E.1 E.2.1 dX5_span_13 (by decide) (fun c51 => ?_) (fun c51 => ?_)
    · replace hw := hw.1 (c51)
      exact jh3 _ hw _ _ _ hT hS (lv_sub hl [0, 1, 2] rfl)
    · replace hw := hw.2 (c51)
      refine lv_aload_n E.1 E.2.1 dX5_span_16 rfl (lv_at hl 0 rfl) ?_
      refine lv_iconst (v := nI 1) E.1 E.2.1 dX5_span_17 rfl ?_
      refine tw_callVv E hK hT hS (As := [.int (nI 1)]) (rest := []) (met_wrong l G ta (d + 6) hw) (cwV 1 E.2.2.2.2 (lw_V q2113 q2115 qs66 q128 q2116) rfl rfl rfl hd_wrong (rm_ok (by omega) (by decide))) rfl rfl hl.1 (Nat.le_of_ble_eq_true rfl) dX5_span_18 (fun z52 H locs hw hT hS => ?_)
      exact jh3 _ hw _ _ _ hT hS (lv_sub hl [0, 1, 2] rfl)
  · replace hw := hw.2 (c1)
    exact tw_vret E hr hlocks hT hS hw dX5_span_7
/-- chapterLine()V -/
def wp_chapterLine (post : TS → Prop) (z0 : TS) : Prop := ∃ J1 : TS → Int32 → Prop, (∀ (z3 : TS) (x4 : Int32), J1 z3 x4 → ∃ J5 : TS → Int64 → Prop, (∀ (z7 : TS) (w8 : Int64), J5 z7 w8 → wp_next (fun z9 => ∀ x10, x10 = ((nI 6) * (sx z9 31)) + x4 → ∃ I11 : Nat → TS → Int32 → Prop, (∃ n17, I11 n17 z9 (nI 0)) ∧ ∀ (n12 : Nat) (z13 : TS) (x16 : Int32), I11 n12 z13 x16 → ∃ J18 : TS → Prop, (∀ (z20 : TS), J18 z20  → ∃ J21 : TS → Bool → Prop, (∀ (z23 : TS) (b24 : Bool), J21 z23 b24 → wp_span (fun z25 => ((sx z25 48) ≤ 0 → vp_in (((nI 3) * x10) + x16) 54 ∧ ∀ z27, z27 = uf z25 6 (((nI 3) * x10) + x16).toNatClampNeg (sx z25 49) → vp_in (((nI 3) * x10) + x16) 54 ∧ ∀ z28, z28 = uf z27 7 (((nI 3) * x10) + x16).toNatClampNeg (sx z27 50) → wp_isSign (fun b30 z29 => (b30 = true → ∃ n32, n32 < n12 ∧ I11 n32 z29 (x16 + nI 1)) ∧ (b30 = false → vp_in (x10) 18 ∧ ∀ z33, z33 = ug z29 4 x10.toNatClampNeg w8 → vp_in (x10) 18 ∧ ∀ z34, z34 = uf z33 5 x10.toNatClampNeg (x16 + nI 1) → vp_in (x10) 18 ∧ ∀ z35, z35 = uf z34 8 x10.toNatClampNeg ((-1)) → wp_lineEnds (fun z36 => (¬ (sx z36 48) = 0 → post z36) ∧ ((sx z36 48) = 0 → vp_in ((nI 7) * (sx z36 31)) 21 ∧ vp_in ((nI 7) * (sx z36 31)) 21 ∧ ∀ z38, z38 = uf z36 3 ((nI 7) * (sx z36 31)).toNatClampNeg ((sf z36 3 ((nI 7) * (sx z36 31)).toNatClampNeg) + (nI 1)) → post z38)) z35)) z28 (nI 44)) ∧ (¬ (sx z25 48) ≤ 0 → post z25)) z23 false b24) ∧ ((¬ x16 = (nI 3) → J21 z20 false) ∧ (x16 = (nI 3) → J21 z20 true))) ∧ ((x16 ≤ 0 → J18 z13 ) ∧ (¬ x16 ≤ 0 → wp_next (fun z42 => J18 z42 ) z13))) z7) ∧ (wp_next (fun z46 => wp_name (fun w48 z47 => (¬ (sx z47 48) = 0 → J5 z47 w48) ∧ ((sx z47 48) = 0 → wp_chapterOf (fun r51 z50 => (r51 < 0 → J5 z50 w48) ∧ (¬ r51 < 0 → wp_wrong (fun z53 => J5 z53 w48) z50 (nI 3))) z47 w48)) z46) z3)) ∧ (wp_chapters (fun r56 z55 => (¬ r56 = (nI 6) → J1 z55 r56) ∧ (r56 = (nI 6) → wp_wrong (fun z58 => J1 z58 r56) z55 (nI 4))) z0 (sx z0 31))
theorem hd_chapterLine : yX5_chapterLine.cls = RX5 ∧ yX5_chapterLine.cls ≠ "java/lang/invoke/MethodHandle" ∧ yX5_chapterLine.cls ≠ "java/lang/invoke/VarHandle" ∧ (parseMethodDescriptor yX5_chapterLine.desc).map (fun d => d.parameters.length) = some 0 := by decide +kernel
set_option maxHeartbeats 4000000 in
theorem met_chapterLine (l : Launch) (G : GP) (ta : Nat → Nat) (d : Nat) {post : TS → Prop} {z0 : TS} (hw : wp_chapterLine post z0) : Met l yX5_chapterLine (ws_ yX5_chapterLine cX5_chapterLine 6 none) (rmd (d + 10) 0 0) (tPc G ta z0 [.ref (ta 73)]) (tQv G ta post) 0 0 (TA ta) := by
  unfold wp_chapterLine at hw
  refine tw_met (by decide) rfl (Nat.le_of_ble_eq_true rfl) ?_
  intro p e s m args below meth c ls E hr hlocks hK hT hS hl
  replace hl : lv_has ls 6 [(0, .ref (ta 73))] := hl
  obtain ⟨J1, hj59, hw⟩ := hw
  have jh2 : ∀ (z3 : TS) (x4 : Int32), J1 z3 x4 → ∀ (H : Heap) (locs : List Loc) (ls : Array Slot), TW G ta z3 H → va_S (TA ta) s.heap H locs → lv_has ls 6 [(0, .ref (ta 73)), (1, .int (x4))] → W p l e (rmd (d + 10) 0 0) s m args below meth c H locs 0 0 (MQ below (tQv G ta post) args s 0 0 (TA ta)) (F0 m 20 ls []) := by
    intro z3 x4 hw H locs ls hT hS hl
    replace hw := hj59 z3 x4 hw
    obtain ⟨J5, hj54, hw⟩ := hw
    have jh6 : ∀ (z7 : TS) (w8 : Int64), J5 z7 w8 → ∀ (H : Heap) (locs : List Loc) (ls : Array Slot), TW G ta z7 H → va_S (TA ta) s.heap H locs → lv_has ls 6 [(0, .ref (ta 73)), (1, .int (x4)), (2, .long (w8))] → W p l e (rmd (d + 10) 0 0) s m args below meth c H locs 0 0 (MQ below (tQv G ta post) args s 0 0 (TA ta)) (F0 m 49 ls []) := by
      intro z7 w8 hw H locs ls hT hS hl
      replace hw := hj54 z7 w8 hw
      refine lv_aload_n E.1 E.2.1 dX5_chapterLine_49 rfl (lv_at hl 0 rfl) ?_
      refine tw_callVv E hK hT hS (As := []) (rest := []) (met_next l G ta (d + 6) hw) (cwV 0 E.2.2.2.2 (lw_V q2055 q2057 qs59 q128 q2058) rfl rfl rfl hd_next (rm_ok (by omega) (by decide))) rfl rfl hl.1 (Nat.le_of_ble_eq_true rfl) dX5_chapterLine_50 (fun z9 H locs hw hT hS => ?_)
      refine lv_bipush (v := nI 6) E.1 E.2.1 dX5_chapterLine_53 rfl ?_
      refine lv_aload_n E.1 E.2.1 dX5_chapterLine_55 rfl (lv_at hl 0 rfl) ?_
      refine tw_get E hK hT 31 (Nat.le_of_ble_eq_true rfl) q1841 rfl (v := .int (sx z9 31)) rfl dX5_chapterLine_56 ?_
      refine lv_imul E.1 E.2.1 dX5_chapterLine_59 ?_
      refine lv_iload_n E.1 E.2.1 dX5_chapterLine_60 rfl (lv_at hl 1 rfl) ?_
      refine lv_iadd E.1 E.2.1 dX5_chapterLine_61 ?_
      refine lv_topi (fun x10 ex10 => ?_)
      replace hw := hw x10 ex10
      refine lv_istore (lv' := [(4, .int (x10)), (0, .ref (ta 73)), (1, .int (x4)), (2, .long (w8))]) E.1 E.2.1 dX5_chapterLine_62 hl (Nat.le_of_ble_eq_true rfl) rfl (fun ls hl => ?_)
      refine lv_iconst (v := nI 0) E.1 E.2.1 dX5_chapterLine_64 rfl ?_
      refine lv_istore (lv' := [(5, .int (nI 0)), (4, .int (x10)), (0, .ref (ta 73)), (1, .int (x4)), (2, .long (w8))]) E.1 E.2.1 dX5_chapterLine_65 hl (Nat.le_of_ble_eq_true rfl) rfl (fun ls hl => ?_)
      obtain ⟨I11, ⟨n17, hi45⟩, hb44⟩ := hw
      have L15 : ∀ (n12 : Nat) (z13 : TS) (x16 : Int32), I11 n12 z13 x16 → ∀ (H : Heap) (locs : List Loc) (ls : Array Slot), TW G ta z13 H → va_S (TA ta) s.heap H locs → lv_has ls 6 [(0, .ref (ta 73)), (2, .long (w8)), (4, .int (x10)), (5, .int (x16))] → W p l e (rmd (d + 10) 0 0) s m args below meth c H locs 0 0 (MQ below (tQv G ta post) args s 0 0 (TA ta)) (F0 m 67 ls []) := by
        intro n12
        induction n12 using Nat.strongRecOn with
        | _ n12 ih14 =>
          intro z13 x16 hw H locs ls hT hS hl
          replace hw := hb44 n12 z13 x16 hw
          obtain ⟨J18, hj43, hw⟩ := hw
          have jh19 : ∀ (z20 : TS), J18 z20  → ∀ (H : Heap) (locs : List Loc) (ls : Array Slot), TW G ta z20 H → va_S (TA ta) s.heap H locs → lv_has ls 6 [(0, .ref (ta 73)), (2, .long (w8)), (4, .int (x10)), (5, .int (x16))] → W p l e (rmd (d + 10) 0 0) s m args below meth c H locs 0 0 (MQ below (tQv G ta post) args s 0 0 (TA ta)) (F0 m 76 ls []) := by
            intro z20 hw H locs ls hT hS hl
            replace hw := hj43 z20 hw
            obtain ⟨J21, hj40, hw⟩ := hw
            have jh22 : ∀ (z23 : TS) (b24 : Bool), J21 z23 b24 → ∀ (H : Heap) (locs : List Loc) (ls : Array Slot), TW G ta z23 H → va_S (TA ta) s.heap H locs → lv_has ls 6 [(0, .ref (ta 73)), (2, .long (w8)), (4, .int (x10)), (5, .int (x16))] → W p l e (rmd (d + 10) 0 0) s m args below meth c H locs 0 0 (MQ below (tQv G ta post) args s 0 0 (TA ta)) (F0 m 89 ls [.int (bi b24), .int (nI 0), .ref (ta 73)]) := by
              intro z23 b24 hw H locs ls hT hS hl
              replace hw := hj40 z23 b24 hw
              refine tw_callVv E hK hT hS (As := [.int (nI 0), .int (bi b24)]) (rest := []) (met_span l G ta (d + 1) hw) (cwV 2 E.2.2.2.2 (lw_V q2152 q2154 qs71 q128 q2155) rfl rfl rfl hd_span (rm_ok (by omega) (by decide))) rfl rfl hl.1 (Nat.le_of_ble_eq_true rfl) dX5_chapterLine_89 (fun z25 H locs hw hT hS => ?_)
              refine lv_aload_n E.1 E.2.1 dX5_chapterLine_92 rfl (lv_at hl 0 rfl) ?_
              refine tw_get E hK hT 48 (Nat.le_of_ble_eq_true rfl) q1858 rfl (v := .int (sx z25 48)) rfl dX5_chapterLine_93 ?_
              refine lv_if_le (tgt := 100) E.1 E.2.1 dX5_chapterLine_96 (by decide) (fun c26 => ?_) (fun c26 => ?_)
              · replace hw := hw.1 (c26)
                refine lv_aload_n E.1 E.2.1 dX5_chapterLine_100 rfl (lv_at hl 0 rfl) ?_
                refine tw_get E hK hT 6 (Nat.le_of_ble_eq_true rfl) q1816 rfl (v := .ref (ta 6)) rfl dX5_chapterLine_101 ?_
                refine lv_iconst (v := nI 3) E.1 E.2.1 dX5_chapterLine_104 rfl ?_
                refine lv_iload E.1 E.2.1 dX5_chapterLine_105 (lv_at hl 2 rfl) ?_
                refine lv_imul E.1 E.2.1 dX5_chapterLine_107 ?_
                refine lv_iload E.1 E.2.1 dX5_chapterLine_108 (lv_at hl 3 rfl) ?_
                refine lv_iadd E.1 E.2.1 dX5_chapterLine_110 ?_
                refine lv_aload_n E.1 E.2.1 dX5_chapterLine_111 rfl (lv_at hl 0 rfl) ?_
                refine tw_get E hK hT 49 (Nat.le_of_ble_eq_true rfl) q1859 rfl (v := .int (sx z25 49)) rfl dX5_chapterLine_112 ?_
                obtain ⟨hin, hw⟩ := hw
                refine tw_iast E hK hT hS 6 rfl hin dX5_chapterLine_115 (fun H locs hT hS => ?_)
                obtain ⟨z27, ez27⟩ : ∃ y, y = uf z25 6 (((nI 3) * x10) + x16).toNatClampNeg (sx z25 49) := ⟨_, rfl⟩
                rw [← ez27] at hT
                replace hw := hw z27 ez27
                refine lv_aload_n E.1 E.2.1 dX5_chapterLine_116 rfl (lv_at hl 0 rfl) ?_
                refine tw_get E hK hT 7 (Nat.le_of_ble_eq_true rfl) q1817 rfl (v := .ref (ta 7)) rfl dX5_chapterLine_117 ?_
                refine lv_iconst (v := nI 3) E.1 E.2.1 dX5_chapterLine_120 rfl ?_
                refine lv_iload E.1 E.2.1 dX5_chapterLine_121 (lv_at hl 2 rfl) ?_
                refine lv_imul E.1 E.2.1 dX5_chapterLine_123 ?_
                refine lv_iload E.1 E.2.1 dX5_chapterLine_124 (lv_at hl 3 rfl) ?_
                refine lv_iadd E.1 E.2.1 dX5_chapterLine_126 ?_
                refine lv_aload_n E.1 E.2.1 dX5_chapterLine_127 rfl (lv_at hl 0 rfl) ?_
                refine tw_get E hK hT 50 (Nat.le_of_ble_eq_true rfl) q1860 rfl (v := .int (sx z27 50)) rfl dX5_chapterLine_128 ?_
                obtain ⟨hin, hw⟩ := hw
                refine tw_iast E hK hT hS 7 rfl hin dX5_chapterLine_131 (fun H locs hT hS => ?_)
                obtain ⟨z28, ez28⟩ : ∃ y, y = uf z27 7 (((nI 3) * x10) + x16).toNatClampNeg (sx z27 50) := ⟨_, rfl⟩
                rw [← ez28] at hT
                replace hw := hw z28 ez28
                refine lv_iinc (k := 3) (v := x16 + nI 1) (lv' := [(5, .int (x16 + nI 1)), (0, .ref (ta 73)), (2, .long (w8)), (4, .int (x10))]) E.1 E.2.1 dX5_chapterLine_132 hl rfl rfl (Nat.le_of_ble_eq_true rfl) rfl (fun ls hl => ?_)
                refine lv_aload_n E.1 E.2.1 dX5_chapterLine_135 rfl (lv_at hl 1 rfl) ?_
                refine lv_bipush (v := nI 44) E.1 E.2.1 dX5_chapterLine_136 rfl ?_
                refine tw_callVz E hK hT hS (As := [.int (nI 44)]) (rest := []) (met_isSign l G ta (d + 9) hw) (cwV 1 E.2.2.2.2 (lw_V q2159 q2161 qs72 q128 q2162) rfl rfl rfl hd_isSign (rm_ok (by omega) (by decide))) rfl rfl hl.1 (Nat.le_of_ble_eq_true rfl) dX5_chapterLine_138 (fun b30 z29 H locs hw hT hS => ?_)
                refine lv_if_ne (tgt := 67) E.1 E.2.1 dX5_chapterLine_141 (by decide) (fun c31 => ?_) (fun c31 => ?_)
                · replace hw := hw.1 (bi_n c31)
                  obtain ⟨n32, hnn32, hin32⟩ := hw
                  exact ih14 n32 hnn32 _ _ hin32 _ _ _ hT hS (lv_sub hl [1, 2, 3, 0] rfl)
                · replace hw := hw.2 (bi_z c31)
                  refine lv_aload_n E.1 E.2.1 dX5_chapterLine_144 rfl (lv_at hl 1 rfl) ?_
                  refine tw_get E hK hT 4 (Nat.le_of_ble_eq_true rfl) q1814 rfl (v := .ref (ta 4)) rfl dX5_chapterLine_145 ?_
                  refine lv_iload E.1 E.2.1 dX5_chapterLine_148 (lv_at hl 3 rfl) ?_
                  refine lv_lload_n E.1 E.2.1 dX5_chapterLine_150 rfl (lv_at hl 2 rfl) ?_
                  obtain ⟨hin, hw⟩ := hw
                  refine tw_last E hK hT hS 4 rfl rfl hin dX5_chapterLine_151 (fun H locs hT hS => ?_)
                  obtain ⟨z33, ez33⟩ : ∃ y, y = ug z29 4 x10.toNatClampNeg w8 := ⟨_, rfl⟩
                  rw [← ez33] at hT
                  replace hw := hw z33 ez33
                  refine lv_aload_n E.1 E.2.1 dX5_chapterLine_152 rfl (lv_at hl 1 rfl) ?_
                  refine tw_get E hK hT 5 (Nat.le_of_ble_eq_true rfl) q1815 rfl (v := .ref (ta 5)) rfl dX5_chapterLine_153 ?_
                  refine lv_iload E.1 E.2.1 dX5_chapterLine_156 (lv_at hl 3 rfl) ?_
                  refine lv_iload E.1 E.2.1 dX5_chapterLine_158 (lv_at hl 0 rfl) ?_
                  obtain ⟨hin, hw⟩ := hw
                  refine tw_iast E hK hT hS 5 rfl hin dX5_chapterLine_160 (fun H locs hT hS => ?_)
                  obtain ⟨z34, ez34⟩ : ∃ y, y = uf z33 5 x10.toNatClampNeg (x16 + nI 1) := ⟨_, rfl⟩
                  rw [← ez34] at hT
                  replace hw := hw z34 ez34
                  refine lv_aload_n E.1 E.2.1 dX5_chapterLine_161 rfl (lv_at hl 1 rfl) ?_
                  refine tw_get E hK hT 8 (Nat.le_of_ble_eq_true rfl) q1818 rfl (v := .ref (ta 8)) rfl dX5_chapterLine_162 ?_
                  refine lv_iload E.1 E.2.1 dX5_chapterLine_165 (lv_at hl 3 rfl) ?_
                  refine lv_iconst (v := (-1)) E.1 E.2.1 dX5_chapterLine_167 rfl ?_
                  obtain ⟨hin, hw⟩ := hw
                  refine tw_iast E hK hT hS 8 rfl hin dX5_chapterLine_168 (fun H locs hT hS => ?_)
                  obtain ⟨z35, ez35⟩ : ∃ y, y = uf z34 8 x10.toNatClampNeg ((-1)) := ⟨_, rfl⟩
                  rw [← ez35] at hT
                  replace hw := hw z35 ez35
                  refine lv_aload_n E.1 E.2.1 dX5_chapterLine_169 rfl (lv_at hl 1 rfl) ?_
                  refine tw_callVv E hK hT hS (As := []) (rest := []) (met_lineEnds l G ta (d + 7) hw) (cwV 0 E.2.2.2.2 (lw_V q2163 q2165 qs73 q128 q2166) rfl rfl rfl hd_lineEnds (rm_ok (by omega) (by decide))) rfl rfl hl.1 (Nat.le_of_ble_eq_true rfl) dX5_chapterLine_170 (fun z36 H locs hw hT hS => ?_)
                  refine lv_aload_n E.1 E.2.1 dX5_chapterLine_173 rfl (lv_at hl 1 rfl) ?_
                  refine tw_get E hK hT 48 (Nat.le_of_ble_eq_true rfl) q1858 rfl (v := .int (sx z36 48)) rfl dX5_chapterLine_174 ?_
                  refine lv_if_ne (tgt := 196) E.1 E.2.1 dX5_chapterLine_177 (by decide) (fun c37 => ?_) (fun c37 => ?_)
                  · replace hw := hw.1 (c37)
                    exact tw_vret E hr hlocks hT hS hw dX5_chapterLine_196
                  · replace hw := hw.2 (c37)
                    refine lv_aload_n E.1 E.2.1 dX5_chapterLine_180 rfl (lv_at hl 1 rfl) ?_
                    refine tw_get E hK hT 3 (Nat.le_of_ble_eq_true rfl) q1813 rfl (v := .ref (ta 3)) rfl dX5_chapterLine_181 ?_
                    refine lv_bipush (v := nI 7) E.1 E.2.1 dX5_chapterLine_184 rfl ?_
                    refine lv_aload_n E.1 E.2.1 dX5_chapterLine_186 rfl (lv_at hl 1 rfl) ?_
                    refine tw_get E hK hT 31 (Nat.le_of_ble_eq_true rfl) q1841 rfl (v := .int (sx z36 31)) rfl dX5_chapterLine_187 ?_
                    refine lv_imul E.1 E.2.1 dX5_chapterLine_190 ?_
                    refine lv_dup2_11 E.1 E.2.1 dX5_chapterLine_191 rfl rfl ?_
                    obtain ⟨hin, hw⟩ := hw
                    refine tw_iald E hK hT 3 rfl hin dX5_chapterLine_192 ?_
                    refine lv_iconst (v := nI 1) E.1 E.2.1 dX5_chapterLine_193 rfl ?_
                    refine lv_iadd E.1 E.2.1 dX5_chapterLine_194 ?_
                    obtain ⟨hin, hw⟩ := hw
                    refine tw_iast E hK hT hS 3 rfl hin dX5_chapterLine_195 (fun H locs hT hS => ?_)
                    obtain ⟨z38, ez38⟩ : ∃ y, y = uf z36 3 ((nI 7) * (sx z36 31)).toNatClampNeg ((sf z36 3 ((nI 7) * (sx z36 31)).toNatClampNeg) + (nI 1)) := ⟨_, rfl⟩
                    rw [← ez38] at hT
                    replace hw := hw z38 ez38
                    exact tw_vret E hr hlocks hT hS hw dX5_chapterLine_196
              · replace hw := hw.2 (c26)
                exact tw_vret E hr hlocks hT hS hw dX5_chapterLine_99
            refine lv_aload_n E.1 E.2.1 dX5_chapterLine_76 rfl (lv_at hl 0 rfl) ?_
            refine lv_iconst (v := nI 0) E.1 E.2.1 dX5_chapterLine_77 rfl ?_
            refine lv_iload E.1 E.2.1 dX5_chapterLine_78 (lv_at hl 3 rfl) ?_
            refine lv_iconst (v := nI 3) E.1 E.2.1 dX5_chapterLine_80 rfl ?_
            refine lv_icmp_ne (tgt := 88) E.1 E.2.1 dX5_chapterLine_81 (by decide) (fun c39 => ?_) (fun c39 => ?_)
            · replace hw := hw.1 (c39)
              refine lv_iconst (v := nI 0) E.1 E.2.1 dX5_chapterLine_88 rfl ?_
              exact jh22 _ _ hw _ _ _ hT hS (lv_sub hl [0, 1, 2, 3] rfl)
            · replace hw := hw.2 (c39)
              refine lv_iconst (v := nI 1) E.1 E.2.1 dX5_chapterLine_84 rfl ?_
              refine lv_goto (tgt := 89) E.1 E.2.1 dX5_chapterLine_85 (by decide) ?_
              exact jh22 _ _ hw _ _ _ hT hS (lv_sub hl [0, 1, 2, 3] rfl)
          refine lv_iload E.1 E.2.1 dX5_chapterLine_67 (lv_at hl 3 rfl) ?_
          refine lv_if_le (tgt := 76) E.1 E.2.1 dX5_chapterLine_69 (by decide) (fun c41 => ?_) (fun c41 => ?_)
          · replace hw := hw.1 (c41)
            exact jh19 _ hw _ _ _ hT hS (lv_sub hl [0, 1, 2, 3] rfl)
          · replace hw := hw.2 (c41)
            refine lv_aload_n E.1 E.2.1 dX5_chapterLine_72 rfl (lv_at hl 0 rfl) ?_
            refine tw_callVv E hK hT hS (As := []) (rest := []) (met_next l G ta (d + 6) hw) (cwV 0 E.2.2.2.2 (lw_V q2055 q2057 qs59 q128 q2058) rfl rfl rfl hd_next (rm_ok (by omega) (by decide))) rfl rfl hl.1 (Nat.le_of_ble_eq_true rfl) dX5_chapterLine_73 (fun z42 H locs hw hT hS => ?_)
            exact jh19 _ hw _ _ _ hT hS (lv_sub hl [0, 1, 2, 3] rfl)
      exact L15 n17 _ _ hi45 _ _ _ hT hS (lv_sub hl [2, 4, 1, 0] rfl)
    refine lv_aload_n E.1 E.2.1 dX5_chapterLine_20 rfl (lv_at hl 0 rfl) ?_
    refine tw_callVv E hK hT hS (As := []) (rest := []) (met_next l G ta (d + 6) hw) (cwV 0 E.2.2.2.2 (lw_V q2055 q2057 qs59 q128 q2058) rfl rfl rfl hd_next (rm_ok (by omega) (by decide))) rfl rfl hl.1 (Nat.le_of_ble_eq_true rfl) dX5_chapterLine_21 (fun z46 H locs hw hT hS => ?_)
    refine lv_aload_n E.1 E.2.1 dX5_chapterLine_24 rfl (lv_at hl 0 rfl) ?_
    refine tw_callVl E hK hT hS (As := []) (rest := []) (met_name l G ta (d) hw) (cwV 0 E.2.2.2.2 (lw_V q2121 q2123 qs68 q128 q2124) rfl rfl rfl hd_name (rm_ok (by omega) (by decide))) rfl rfl hl.1 (Nat.le_of_ble_eq_true rfl) dX5_chapterLine_25 (fun w48 z47 H locs hw hT hS => ?_)
    refine lv_lstore_n (lv' := [(2, .long (w48)), (0, .ref (ta 73)), (1, .int (x4))]) E.1 E.2.1 dX5_chapterLine_28 rfl hl (Nat.le_of_ble_eq_true rfl) rfl (fun ls hl => ?_)
    refine lv_aload_n E.1 E.2.1 dX5_chapterLine_29 rfl (lv_at hl 1 rfl) ?_
    refine tw_get E hK hT 48 (Nat.le_of_ble_eq_true rfl) q1858 rfl (v := .int (sx z47 48)) rfl dX5_chapterLine_30 ?_
    refine lv_if_ne (tgt := 49) E.1 E.2.1 dX5_chapterLine_33 (by decide) (fun c49 => ?_) (fun c49 => ?_)
    · replace hw := hw.1 (c49)
      exact jh6 _ _ hw _ _ _ hT hS (lv_sub hl [1, 2, 0] rfl)
    · replace hw := hw.2 (c49)
      refine lv_aload_n E.1 E.2.1 dX5_chapterLine_36 rfl (lv_at hl 1 rfl) ?_
      refine lv_lload_n E.1 E.2.1 dX5_chapterLine_37 rfl (lv_at hl 0 rfl) ?_
      refine tw_callVi E hK hT hS (As := [.long (w48)]) (rest := []) (met_chapterOf l G ta (d + 8) hw) (cwV 1 E.2.2.2.2 (lw_V q2148 q2150 qs70 q128 q2151) rfl rfl rfl hd_chapterOf (rm_ok (by omega) (by decide))) rfl rfl hl.1 (Nat.le_of_ble_eq_true rfl) dX5_chapterLine_38 (fun r51 z50 H locs hw hT hS => ?_)
      refine lv_if_lt (tgt := 49) E.1 E.2.1 dX5_chapterLine_41 (by decide) (fun c52 => ?_) (fun c52 => ?_)
      · replace hw := hw.1 (c52)
        exact jh6 _ _ hw _ _ _ hT hS (lv_sub hl [1, 2, 0] rfl)
      · replace hw := hw.2 (c52)
        refine lv_aload_n E.1 E.2.1 dX5_chapterLine_44 rfl (lv_at hl 1 rfl) ?_
        refine lv_iconst (v := nI 3) E.1 E.2.1 dX5_chapterLine_45 rfl ?_
        refine tw_callVv E hK hT hS (As := [.int (nI 3)]) (rest := []) (met_wrong l G ta (d + 8) hw) (cwV 1 E.2.2.2.2 (lw_V q2113 q2115 qs66 q128 q2116) rfl rfl rfl hd_wrong (rm_ok (by omega) (by decide))) rfl rfl hl.1 (Nat.le_of_ble_eq_true rfl) dX5_chapterLine_46 (fun z53 H locs hw hT hS => ?_)
        exact jh6 _ _ hw _ _ _ hT hS (lv_sub hl [1, 2, 0] rfl)
  refine lv_aload_n E.1 E.2.1 dX5_chapterLine_0 rfl (lv_at hl 0 rfl) ?_
  refine lv_aload_n E.1 E.2.1 dX5_chapterLine_1 rfl (lv_at hl 0 rfl) ?_
  refine tw_get E hK hT 31 (Nat.le_of_ble_eq_true rfl) q1841 rfl (v := .int (sx z0 31)) rfl dX5_chapterLine_2 ?_
  refine tw_callVi E hK hT hS (As := [.int (sx z0 31)]) (rest := []) (met_chapters l G ta (d + 9) hw) (cwV 1 E.2.2.2.2 (lw_V q2109 q2111 qs65 q128 q2112) rfl rfl rfl hd_chapters (rm_ok (by omega) (by decide))) rfl rfl hl.1 (Nat.le_of_ble_eq_true rfl) dX5_chapterLine_5 (fun r56 z55 H locs hw hT hS => ?_)
  refine lv_istore_n (lv' := [(1, .int (r56)), (0, .ref (ta 73))]) E.1 E.2.1 dX5_chapterLine_8 rfl hl (Nat.le_of_ble_eq_true rfl) rfl (fun ls hl => ?_)
  refine lv_iload_n E.1 E.2.1 dX5_chapterLine_9 rfl (lv_at hl 0 rfl) ?_
  refine lv_bipush (v := nI 6) E.1 E.2.1 dX5_chapterLine_10 rfl ?_
  refine lv_icmp_ne (tgt := 20) E.1 E.2.1 dX5_chapterLine_12 (by decide) (fun c57 => ?_) (fun c57 => ?_)
  · replace hw := hw.1 (c57)
    exact jh2 _ _ hw _ _ _ hT hS (lv_sub hl [1, 0] rfl)
  · replace hw := hw.2 (c57)
    refine lv_aload_n E.1 E.2.1 dX5_chapterLine_15 rfl (lv_at hl 1 rfl) ?_
    refine lv_iconst (v := nI 4) E.1 E.2.1 dX5_chapterLine_16 rfl ?_
    refine tw_callVv E hK hT hS (As := [.int (nI 4)]) (rest := []) (met_wrong l G ta (d + 8) hw) (cwV 1 E.2.2.2.2 (lw_V q2113 q2115 qs66 q128 q2116) rfl rfl rfl hd_wrong (rm_ok (by omega) (by decide))) rfl rfl hl.1 (Nat.le_of_ble_eq_true rfl) dX5_chapterLine_17 (fun z58 H locs hw hT hS => ?_)
    exact jh2 _ _ hw _ _ _ hT hS (lv_sub hl [1, 0] rfl)
/-- compares(III)Z -/
def wp_compares (post : Bool → TS → Prop) (z0 : TS) (i0 : Int32) (i1 : Int32) (i2 : Int32) : Prop := (¬ i1 = 0 → (i0 ≤ i2 → post false z0) ∧ (¬ i0 ≤ i2 → post true z0)) ∧ (i1 = 0 → (i2 ≤ i0 → post false z0) ∧ (¬ i2 ≤ i0 → post true z0))
theorem hs_compares : yX5_compares.cls ≠ "java/lang/invoke/MethodHandle" ∧ yX5_compares.cls ≠ "java/lang/invoke/VarHandle" ∧ (parseMethodDescriptor yX5_compares.desc).map (fun d => d.parameters.length) = some 3 := by decide +kernel
set_option maxHeartbeats 4000000 in
theorem met_compares (l : Launch) (G : GP) (ta : Nat → Nat) (d : Nat) {post : Bool → TS → Prop} {z0 : TS} {i0 : Int32} {i1 : Int32} {i2 : Int32} (hw : wp_compares post z0 i0 i1 i2) : Met l yX5_compares (ws_ yX5_compares cX5_compares 3 (some .boolean)) (rmd (d + 0) 0 0) (tPc G ta z0 [.int (i0), .int (i1), .int (i2)]) (tQz G ta post) 0 0 (TA ta) := by
  unfold wp_compares at hw
  refine tw_met (by decide) rfl (Nat.le_of_ble_eq_true rfl) ?_
  intro p e s m args below meth c ls E hr hlocks hK hT hS hl
  replace hl : lv_has ls 3 [(0, .int (i0)), (1, .int (i1)), (2, .int (i2))] := hl
  refine lv_iload_n E.1 E.2.1 dX5_compares_0 rfl (lv_at hl 1 rfl) ?_
  refine lv_if_ne (tgt := 17) E.1 E.2.1 dX5_compares_1 (by decide) (fun c1 => ?_) (fun c1 => ?_)
  · replace hw := hw.1 (c1)
    refine lv_iload_n E.1 E.2.1 dX5_compares_17 rfl (lv_at hl 0 rfl) ?_
    refine lv_iload_n E.1 E.2.1 dX5_compares_18 rfl (lv_at hl 2 rfl) ?_
    refine lv_icmp_le (tgt := 26) E.1 E.2.1 dX5_compares_19 (by decide) (fun c2 => ?_) (fun c2 => ?_)
    · replace hw := hw.1 (c2)
      refine lv_iconst (v := nI 0) E.1 E.2.1 dX5_compares_26 rfl ?_
      exact tw_iretz (b := false) E hr hlocks hT hS rfl hw dX5_compares_27
    · replace hw := hw.2 (c2)
      refine lv_iconst (v := nI 1) E.1 E.2.1 dX5_compares_22 rfl ?_
      refine lv_goto (tgt := 27) E.1 E.2.1 dX5_compares_23 (by decide) ?_
      exact tw_iretz (b := true) E hr hlocks hT hS rfl hw dX5_compares_27
  · replace hw := hw.2 (c1)
    refine lv_iload_n E.1 E.2.1 dX5_compares_4 rfl (lv_at hl 0 rfl) ?_
    refine lv_iload_n E.1 E.2.1 dX5_compares_5 rfl (lv_at hl 2 rfl) ?_
    refine lv_icmp_ge (tgt := 13) E.1 E.2.1 dX5_compares_6 (by decide) (fun c3 => ?_) (fun c3 => ?_)
    · replace hw := hw.1 (c3)
      refine lv_iconst (v := nI 0) E.1 E.2.1 dX5_compares_13 rfl ?_
      refine lv_goto (tgt := 27) E.1 E.2.1 dX5_compares_14 (by decide) ?_
      exact tw_iretz (b := false) E hr hlocks hT hS rfl hw dX5_compares_27
    · replace hw := hw.2 (c3)
      refine lv_iconst (v := nI 1) E.1 E.2.1 dX5_compares_9 rfl ?_
      refine lv_goto (tgt := 27) E.1 E.2.1 dX5_compares_10 (by decide) ?_
      exact tw_iretz (b := true) E hr hlocks hT hS rfl hw dX5_compares_27
/-- laysAnswers(IIII)V -/
def wp_laysAnswers (post : TS → Prop) (z0 : TS) (i1 : Int32) (i2 : Int32) (i3 : Int32) (i4 : Int32) : Prop := ∀ x1, x1 = sx z0 71 → ∃ I2 : Nat → TS → Int32 → Prop, (∃ n8, I2 n8 z0 i3) ∧ ∀ (n3 : Nat) (z4 : TS) (x7 : Int32), I2 n3 z4 x7 → (i4 < x7 → post z4) ∧ (¬ i4 < x7 → ∃ I10 : Nat → TS → Int32 → Int32 → Prop, (∃ n17, I10 n17 z4 (nI 0) (nI 0)) ∧ ∀ (n11 : Nat) (z12 : TS) (x15 : Int32) (x16 : Int32), I10 n11 z12 x15 x16 → vp_in (((nI 7) * (sx z12 29)) + (nI 5)) 21 ∧ ((sf z12 3 (((nI 7) * (sx z12 29)) + (nI 5)).toNatClampNeg) ≤ x16 → ∃ I19 : Nat → TS → Bool → Int32 → Prop, (∃ n26, I19 n26 z12 true x1) ∧ ∀ (n20 : Nat) (z21 : TS) (b24 : Bool) (x25 : Int32), I19 n20 z21 b24 x25 → ((sx z21 71) ≤ x25 → (b24 = true → vp_in (sx z21 71) 1700 ∧ ∀ z29, z29 = uf z21 69 (sx z21 71).toNatClampNeg x15 → ∀ z30, z30 = ux z29 71 ((sx z29 71) + (nI 1)) → ∃ n31, n31 < n3 ∧ I2 n31 z30 (x7 + nI 1)) ∧ (b24 = false → ∃ n32, n32 < n3 ∧ I2 n32 z21 (x7 + nI 1))) ∧ (¬ (sx z21 71) ≤ x25 → vp_in (x25) 1700 ∧ (¬ (sf z21 69 x25.toNatClampNeg) = x15 → ∃ n34, n34 < n20 ∧ I19 n34 z21 b24 (x25 + nI 1)) ∧ ((sf z21 69 x25.toNatClampNeg) = x15 → ∃ n35, n35 < n20 ∧ I19 n35 z21 false (x25 + nI 1)))) ∧ (¬ (sf z12 3 (((nI 7) * (sx z12 29)) + (nI 5)).toNatClampNeg) ≤ x16 → ∀ x38, x38 = ((nI 400) * (sx z12 29)) + x16 → vp_in (x38) 1200 ∧ (¬ (sf z12 25 x38.toNatClampNeg) = i2 → ∃ n40, n40 < n11 ∧ I10 n40 z12 x15 (x16 + nI 1)) ∧ ((sf z12 25 x38.toNatClampNeg) = i2 → vp_in (x38) 1200 ∧ (¬ (sf z12 72 x38.toNatClampNeg) = i1 → ∃ n42, n42 < n11 ∧ I10 n42 z12 x15 (x16 + nI 1)) ∧ ((sf z12 72 x38.toNatClampNeg) = i1 → vp_in (x38) 1200 ∧ vp_in (x38) 1200 ∧ wp_compares (fun b44 z43 => (b44 = false → ∃ n46, n46 < n11 ∧ I10 n46 z43 x15 (x16 + nI 1)) ∧ (b44 = true → vp_in (x38) 1200 ∧ ∀ x47, x47 = x15 ||| ((nI 1) <<< ((sf z43 28 x38.toNatClampNeg) &&& 31)) → ∃ n48, n48 < n11 ∧ I10 n48 z43 x47 (x16 + nI 1))) z12 x7 (sf z12 26 x38.toNatClampNeg) (sf z12 27 x38.toNatClampNeg)))))
theorem hd_laysAnswers : yX5_laysAnswers.cls = RX5 ∧ yX5_laysAnswers.cls ≠ "java/lang/invoke/MethodHandle" ∧ yX5_laysAnswers.cls ≠ "java/lang/invoke/VarHandle" ∧ (parseMethodDescriptor yX5_laysAnswers.desc).map (fun d => d.parameters.length) = some 4 := by decide +kernel
set_option maxHeartbeats 4000000 in
theorem met_laysAnswers (l : Launch) (G : GP) (ta : Nat → Nat) (d : Nat) {post : TS → Prop} {z0 : TS} {i1 : Int32} {i2 : Int32} {i3 : Int32} {i4 : Int32} (hw : wp_laysAnswers post z0 i1 i2 i3 i4) : Met l yX5_laysAnswers (ws_ yX5_laysAnswers cX5_laysAnswers 10 none) (rmd (d + 1) 0 0) (tPc G ta z0 [.ref (ta 73), .int (i1), .int (i2), .int (i3), .int (i4)]) (tQv G ta post) 0 0 (TA ta) := by
  unfold wp_laysAnswers at hw
  refine tw_met (by decide) rfl (Nat.le_of_ble_eq_true rfl) ?_
  intro p e s m args below meth c ls E hr hlocks hK hT hS hl
  replace hl : lv_has ls 10 [(0, .ref (ta 73)), (1, .int (i1)), (2, .int (i2)), (3, .int (i3)), (4, .int (i4))] := hl
  refine lv_aload_n E.1 E.2.1 dX5_laysAnswers_0 rfl (lv_at hl 0 rfl) ?_
  refine tw_get E hK hT 71 (Nat.le_of_ble_eq_true rfl) q1881 rfl (v := .int (sx z0 71)) rfl dX5_laysAnswers_1 ?_
  refine lv_topi (fun x1 ex1 => ?_)
  replace hw := hw x1 ex1
  refine lv_istore (lv' := [(5, .int (x1)), (0, .ref (ta 73)), (1, .int (i1)), (2, .int (i2)), (3, .int (i3)), (4, .int (i4))]) E.1 E.2.1 dX5_laysAnswers_4 hl (Nat.le_of_ble_eq_true rfl) rfl (fun ls hl => ?_)
  refine lv_iload_n E.1 E.2.1 dX5_laysAnswers_6 rfl (lv_at hl 4 rfl) ?_
  refine lv_istore (lv' := [(6, .int (i3)), (5, .int (x1)), (0, .ref (ta 73)), (1, .int (i1)), (2, .int (i2)), (3, .int (i3)), (4, .int (i4))]) E.1 E.2.1 dX5_laysAnswers_7 hl (Nat.le_of_ble_eq_true rfl) rfl (fun ls hl => ?_)
  obtain ⟨I2, ⟨n8, hi52⟩, hb51⟩ := hw
  have L6 : ∀ (n3 : Nat) (z4 : TS) (x7 : Int32), I2 n3 z4 x7 → ∀ (H : Heap) (locs : List Loc) (ls : Array Slot), TW G ta z4 H → va_S (TA ta) s.heap H locs → lv_has ls 10 [(0, .ref (ta 73)), (1, .int (i1)), (2, .int (i2)), (4, .int (i4)), (5, .int (x1)), (6, .int (x7))] → W p l e (rmd (d + 1) 0 0) s m args below meth c H locs 0 0 (MQ below (tQv G ta post) args s 0 0 (TA ta)) (F0 m 9 ls []) := by
    intro n3
    induction n3 using Nat.strongRecOn with
    | _ n3 ih5 =>
      intro z4 x7 hw H locs ls hT hS hl
      replace hw := hb51 n3 z4 x7 hw
      refine lv_iload E.1 E.2.1 dX5_laysAnswers_9 (lv_at hl 5 rfl) ?_
      refine lv_iload E.1 E.2.1 dX5_laysAnswers_11 (lv_at hl 3 rfl) ?_
      refine lv_icmp_gt (tgt := 190) E.1 E.2.1 dX5_laysAnswers_13 (by decide) (fun c9 => ?_) (fun c9 => ?_)
      · replace hw := hw.1 (c9)
        exact tw_vret E hr hlocks hT hS hw dX5_laysAnswers_190
      · replace hw := hw.2 (c9)
        refine lv_iconst (v := nI 0) E.1 E.2.1 dX5_laysAnswers_16 rfl ?_
        refine lv_istore (lv' := [(7, .int (nI 0)), (0, .ref (ta 73)), (1, .int (i1)), (2, .int (i2)), (4, .int (i4)), (5, .int (x1)), (6, .int (x7))]) E.1 E.2.1 dX5_laysAnswers_17 hl (Nat.le_of_ble_eq_true rfl) rfl (fun ls hl => ?_)
        refine lv_iconst (v := nI 0) E.1 E.2.1 dX5_laysAnswers_19 rfl ?_
        refine lv_istore (lv' := [(8, .int (nI 0)), (7, .int (nI 0)), (0, .ref (ta 73)), (1, .int (i1)), (2, .int (i2)), (4, .int (i4)), (5, .int (x1)), (6, .int (x7))]) E.1 E.2.1 dX5_laysAnswers_20 hl (Nat.le_of_ble_eq_true rfl) rfl (fun ls hl => ?_)
        obtain ⟨I10, ⟨n17, hi50⟩, hb49⟩ := hw
        have L14 : ∀ (n11 : Nat) (z12 : TS) (x15 : Int32) (x16 : Int32), I10 n11 z12 x15 x16 → ∀ (H : Heap) (locs : List Loc) (ls : Array Slot), TW G ta z12 H → va_S (TA ta) s.heap H locs → lv_has ls 10 [(0, .ref (ta 73)), (1, .int (i1)), (2, .int (i2)), (4, .int (i4)), (5, .int (x1)), (6, .int (x7)), (7, .int (x15)), (8, .int (x16))] → W p l e (rmd (d + 1) 0 0) s m args below meth c H locs 0 0 (MQ below (tQv G ta post) args s 0 0 (TA ta)) (F0 m 22 ls []) := by
          intro n11
          induction n11 using Nat.strongRecOn with
          | _ n11 ih13 =>
            intro z12 x15 x16 hw H locs ls hT hS hl
            replace hw := hb49 n11 z12 x15 x16 hw
            refine lv_iload E.1 E.2.1 dX5_laysAnswers_22 (lv_at hl 7 rfl) ?_
            refine lv_aload_n E.1 E.2.1 dX5_laysAnswers_24 rfl (lv_at hl 0 rfl) ?_
            refine tw_get E hK hT 3 (Nat.le_of_ble_eq_true rfl) q1813 rfl (v := .ref (ta 3)) rfl dX5_laysAnswers_25 ?_
            refine lv_bipush (v := nI 7) E.1 E.2.1 dX5_laysAnswers_28 rfl ?_
            refine lv_aload_n E.1 E.2.1 dX5_laysAnswers_30 rfl (lv_at hl 0 rfl) ?_
            refine tw_get E hK hT 29 (Nat.le_of_ble_eq_true rfl) q1839 rfl (v := .int (sx z12 29)) rfl dX5_laysAnswers_31 ?_
            refine lv_imul E.1 E.2.1 dX5_laysAnswers_34 ?_
            refine lv_iconst (v := nI 5) E.1 E.2.1 dX5_laysAnswers_35 rfl ?_
            refine lv_iadd E.1 E.2.1 dX5_laysAnswers_36 ?_
            obtain ⟨hin, hw⟩ := hw
            refine tw_iald E hK hT 3 rfl hin dX5_laysAnswers_37 ?_
            refine lv_icmp_ge (tgt := 118) E.1 E.2.1 dX5_laysAnswers_38 (by decide) (fun c18 => ?_) (fun c18 => ?_)
            · replace hw := hw.1 (c18)
              refine lv_iconst (v := nI 1) E.1 E.2.1 dX5_laysAnswers_118 rfl ?_
              refine lv_istore (lv' := [(8, .int (nI 1)), (0, .ref (ta 73)), (1, .int (i1)), (2, .int (i2)), (4, .int (i4)), (5, .int (x1)), (6, .int (x7)), (7, .int (x15))]) E.1 E.2.1 dX5_laysAnswers_119 hl (Nat.le_of_ble_eq_true rfl) rfl (fun ls hl => ?_)
              refine lv_iload E.1 E.2.1 dX5_laysAnswers_121 (lv_at hl 5 rfl) ?_
              refine lv_istore (lv' := [(9, .int (x1)), (8, .int (nI 1)), (0, .ref (ta 73)), (1, .int (i1)), (2, .int (i2)), (4, .int (i4)), (5, .int (x1)), (6, .int (x7)), (7, .int (x15))]) E.1 E.2.1 dX5_laysAnswers_123 hl (Nat.le_of_ble_eq_true rfl) rfl (fun ls hl => ?_)
              obtain ⟨I19, ⟨n26, hi37⟩, hb36⟩ := hw
              have L23 : ∀ (n20 : Nat) (z21 : TS) (b24 : Bool) (x25 : Int32), I19 n20 z21 b24 x25 → ∀ (H : Heap) (locs : List Loc) (ls : Array Slot), TW G ta z21 H → va_S (TA ta) s.heap H locs → lv_has ls 10 [(0, .ref (ta 73)), (1, .int (i1)), (2, .int (i2)), (4, .int (i4)), (5, .int (x1)), (6, .int (x7)), (7, .int (x15)), (8, .int (bi b24)), (9, .int (x25))] → W p l e (rmd (d + 1) 0 0) s m args below meth c H locs 0 0 (MQ below (tQv G ta post) args s 0 0 (TA ta)) (F0 m 125 ls []) := by
                intro n20
                induction n20 using Nat.strongRecOn with
                | _ n20 ih22 =>
                  intro z21 b24 x25 hw H locs ls hT hS hl
                  replace hw := hb36 n20 z21 b24 x25 hw
                  refine lv_iload E.1 E.2.1 dX5_laysAnswers_125 (lv_at hl 8 rfl) ?_
                  refine lv_aload_n E.1 E.2.1 dX5_laysAnswers_127 rfl (lv_at hl 0 rfl) ?_
                  refine tw_get E hK hT 71 (Nat.le_of_ble_eq_true rfl) q1881 rfl (v := .int (sx z21 71)) rfl dX5_laysAnswers_128 ?_
                  refine lv_icmp_ge (tgt := 155) E.1 E.2.1 dX5_laysAnswers_131 (by decide) (fun c27 => ?_) (fun c27 => ?_)
                  · replace hw := hw.1 (c27)
                    refine lv_iload E.1 E.2.1 dX5_laysAnswers_155 (lv_at hl 7 rfl) ?_
                    refine lv_if_ne (tgt := 163) E.1 E.2.1 dX5_laysAnswers_157 (by decide) (fun c28 => ?_) (fun c28 => ?_)
                    · replace hw := hw.1 (bi_n c28)
                      refine lv_aload_n E.1 E.2.1 dX5_laysAnswers_163 rfl (lv_at hl 0 rfl) ?_
                      refine tw_get E hK hT 69 (Nat.le_of_ble_eq_true rfl) q1879 rfl (v := .ref (ta 69)) rfl dX5_laysAnswers_164 ?_
                      refine lv_aload_n E.1 E.2.1 dX5_laysAnswers_167 rfl (lv_at hl 0 rfl) ?_
                      refine tw_get E hK hT 71 (Nat.le_of_ble_eq_true rfl) q1881 rfl (v := .int (sx z21 71)) rfl dX5_laysAnswers_168 ?_
                      refine lv_iload E.1 E.2.1 dX5_laysAnswers_171 (lv_at hl 6 rfl) ?_
                      obtain ⟨hin, hw⟩ := hw
                      refine tw_iast E hK hT hS 69 rfl hin dX5_laysAnswers_173 (fun H locs hT hS => ?_)
                      obtain ⟨z29, ez29⟩ : ∃ y, y = uf z21 69 (sx z21 71).toNatClampNeg x15 := ⟨_, rfl⟩
                      rw [← ez29] at hT
                      replace hw := hw z29 ez29
                      refine lv_aload_n E.1 E.2.1 dX5_laysAnswers_174 rfl (lv_at hl 0 rfl) ?_
                      refine lv_dup E.1 E.2.1 dX5_laysAnswers_175 rfl ?_
                      refine tw_get E hK hT 71 (Nat.le_of_ble_eq_true rfl) q1881 rfl (v := .int (sx z29 71)) rfl dX5_laysAnswers_176 ?_
                      refine lv_iconst (v := nI 1) E.1 E.2.1 dX5_laysAnswers_179 rfl ?_
                      refine lv_iadd E.1 E.2.1 dX5_laysAnswers_180 ?_
                      refine tw_puti E hK hT hS 71 (Nat.le_of_ble_eq_true rfl) q1881 rfl rfl rfl rfl dX5_laysAnswers_181 (fun H locs hT hS => ?_)
                      obtain ⟨z30, ez30⟩ : ∃ y, y = ux z29 71 ((sx z29 71) + (nI 1)) := ⟨_, rfl⟩
                      rw [← ez30] at hT
                      replace hw := hw z30 ez30
                      refine lv_iinc (k := 5) (v := x7 + nI 1) (lv' := [(6, .int (x7 + nI 1)), (0, .ref (ta 73)), (1, .int (i1)), (2, .int (i2)), (4, .int (i4)), (5, .int (x1)), (7, .int (x15)), (8, .int (bi b24)), (9, .int (x25))]) E.1 E.2.1 dX5_laysAnswers_184 hl rfl rfl (Nat.le_of_ble_eq_true rfl) rfl (fun ls hl => ?_)
                      refine lv_goto (tgt := 9) E.1 E.2.1 dX5_laysAnswers_187 (by decide) ?_
                      obtain ⟨n31, hnn31, hin31⟩ := hw
                      exact ih5 n31 hnn31 _ _ hin31 _ _ _ hT hS (lv_sub hl [1, 2, 3, 4, 5, 0] rfl)
                    · replace hw := hw.2 (bi_z c28)
                      refine lv_goto (tgt := 184) E.1 E.2.1 dX5_laysAnswers_160 (by decide) ?_
                      refine lv_iinc (k := 5) (v := x7 + nI 1) (lv' := [(6, .int (x7 + nI 1)), (0, .ref (ta 73)), (1, .int (i1)), (2, .int (i2)), (4, .int (i4)), (5, .int (x1)), (7, .int (x15)), (8, .int (bi b24)), (9, .int (x25))]) E.1 E.2.1 dX5_laysAnswers_184 hl rfl rfl (Nat.le_of_ble_eq_true rfl) rfl (fun ls hl => ?_)
                      refine lv_goto (tgt := 9) E.1 E.2.1 dX5_laysAnswers_187 (by decide) ?_
                      obtain ⟨n32, hnn32, hin32⟩ := hw
                      exact ih5 n32 hnn32 _ _ hin32 _ _ _ hT hS (lv_sub hl [1, 2, 3, 4, 5, 0] rfl)
                  · replace hw := hw.2 (c27)
                    refine lv_aload_n E.1 E.2.1 dX5_laysAnswers_134 rfl (lv_at hl 0 rfl) ?_
                    refine tw_get E hK hT 69 (Nat.le_of_ble_eq_true rfl) q1879 rfl (v := .ref (ta 69)) rfl dX5_laysAnswers_135 ?_
                    refine lv_iload E.1 E.2.1 dX5_laysAnswers_138 (lv_at hl 8 rfl) ?_
                    obtain ⟨hin, hw⟩ := hw
                    refine tw_iald E hK hT 69 rfl hin dX5_laysAnswers_140 ?_
                    refine lv_iload E.1 E.2.1 dX5_laysAnswers_141 (lv_at hl 6 rfl) ?_
                    refine lv_icmp_ne (tgt := 149) E.1 E.2.1 dX5_laysAnswers_143 (by decide) (fun c33 => ?_) (fun c33 => ?_)
                    · replace hw := hw.1 (c33)
                      refine lv_iinc (k := 8) (v := x25 + nI 1) (lv' := [(9, .int (x25 + nI 1)), (0, .ref (ta 73)), (1, .int (i1)), (2, .int (i2)), (4, .int (i4)), (5, .int (x1)), (6, .int (x7)), (7, .int (x15)), (8, .int (bi b24))]) E.1 E.2.1 dX5_laysAnswers_149 hl rfl rfl (Nat.le_of_ble_eq_true rfl) rfl (fun ls hl => ?_)
                      refine lv_goto (tgt := 125) E.1 E.2.1 dX5_laysAnswers_152 (by decide) ?_
                      obtain ⟨n34, hnn34, hin34⟩ := hw
                      exact ih22 n34 hnn34 _ _ _ hin34 _ _ _ hT hS (lv_sub hl [1, 2, 3, 4, 5, 6, 7, 8, 0] rfl)
                    · replace hw := hw.2 (c33)
                      refine lv_iconst (v := nI 0) E.1 E.2.1 dX5_laysAnswers_146 rfl ?_
                      refine lv_istore (lv' := [(8, .int (nI 0)), (0, .ref (ta 73)), (1, .int (i1)), (2, .int (i2)), (4, .int (i4)), (5, .int (x1)), (6, .int (x7)), (7, .int (x15)), (9, .int (x25))]) E.1 E.2.1 dX5_laysAnswers_147 hl (Nat.le_of_ble_eq_true rfl) rfl (fun ls hl => ?_)
                      refine lv_iinc (k := 8) (v := x25 + nI 1) (lv' := [(9, .int (x25 + nI 1)), (8, .int (nI 0)), (0, .ref (ta 73)), (1, .int (i1)), (2, .int (i2)), (4, .int (i4)), (5, .int (x1)), (6, .int (x7)), (7, .int (x15))]) E.1 E.2.1 dX5_laysAnswers_149 hl rfl rfl (Nat.le_of_ble_eq_true rfl) rfl (fun ls hl => ?_)
                      refine lv_goto (tgt := 125) E.1 E.2.1 dX5_laysAnswers_152 (by decide) ?_
                      obtain ⟨n35, hnn35, hin35⟩ := hw
                      exact ih22 n35 hnn35 _ _ _ hin35 _ _ _ hT hS (lv_sub hl [2, 3, 4, 5, 6, 7, 8, 1, 0] rfl)
              exact L23 n26 _ _ _ hi37 _ _ _ hT hS (lv_sub hl [2, 3, 4, 5, 6, 7, 8, 1, 0] rfl)
            · replace hw := hw.2 (c18)
              refine lv_sipush (v := nI 400) E.1 E.2.1 dX5_laysAnswers_41 rfl ?_
              refine lv_aload_n E.1 E.2.1 dX5_laysAnswers_44 rfl (lv_at hl 0 rfl) ?_
              refine tw_get E hK hT 29 (Nat.le_of_ble_eq_true rfl) q1839 rfl (v := .int (sx z12 29)) rfl dX5_laysAnswers_45 ?_
              refine lv_imul E.1 E.2.1 dX5_laysAnswers_48 ?_
              refine lv_iload E.1 E.2.1 dX5_laysAnswers_49 (lv_at hl 7 rfl) ?_
              refine lv_iadd E.1 E.2.1 dX5_laysAnswers_51 ?_
              refine lv_topi (fun x38 ex38 => ?_)
              replace hw := hw x38 ex38
              refine lv_istore (lv' := [(9, .int (x38)), (0, .ref (ta 73)), (1, .int (i1)), (2, .int (i2)), (4, .int (i4)), (5, .int (x1)), (6, .int (x7)), (7, .int (x15)), (8, .int (x16))]) E.1 E.2.1 dX5_laysAnswers_52 hl (Nat.le_of_ble_eq_true rfl) rfl (fun ls hl => ?_)
              refine lv_aload_n E.1 E.2.1 dX5_laysAnswers_54 rfl (lv_at hl 1 rfl) ?_
              refine tw_get E hK hT 25 (Nat.le_of_ble_eq_true rfl) q1835 rfl (v := .ref (ta 25)) rfl dX5_laysAnswers_55 ?_
              refine lv_iload E.1 E.2.1 dX5_laysAnswers_58 (lv_at hl 0 rfl) ?_
              obtain ⟨hin, hw⟩ := hw
              refine tw_iald E hK hT 25 rfl hin dX5_laysAnswers_60 ?_
              refine lv_iload_n E.1 E.2.1 dX5_laysAnswers_61 rfl (lv_at hl 3 rfl) ?_
              refine lv_icmp_ne (tgt := 112) E.1 E.2.1 dX5_laysAnswers_62 (by decide) (fun c39 => ?_) (fun c39 => ?_)
              · replace hw := hw.1 (c39)
                refine lv_iinc (k := 8) (v := x16 + nI 1) (lv' := [(8, .int (x16 + nI 1)), (9, .int (x38)), (0, .ref (ta 73)), (1, .int (i1)), (2, .int (i2)), (4, .int (i4)), (5, .int (x1)), (6, .int (x7)), (7, .int (x15))]) E.1 E.2.1 dX5_laysAnswers_112 hl rfl rfl (Nat.le_of_ble_eq_true rfl) rfl (fun ls hl => ?_)
                refine lv_goto (tgt := 22) E.1 E.2.1 dX5_laysAnswers_115 (by decide) ?_
                obtain ⟨n40, hnn40, hin40⟩ := hw
                exact ih13 n40 hnn40 _ _ _ hin40 _ _ _ hT hS (lv_sub hl [2, 3, 4, 5, 6, 7, 8, 0] rfl)
              · replace hw := hw.2 (c39)
                refine lv_aload_n E.1 E.2.1 dX5_laysAnswers_65 rfl (lv_at hl 1 rfl) ?_
                refine tw_get E hK hT 72 (Nat.le_of_ble_eq_true rfl) q1882 rfl (v := .ref (ta 72)) rfl dX5_laysAnswers_66 ?_
                refine lv_iload E.1 E.2.1 dX5_laysAnswers_69 (lv_at hl 0 rfl) ?_
                obtain ⟨hin, hw⟩ := hw
                refine tw_iald E hK hT 72 rfl hin dX5_laysAnswers_71 ?_
                refine lv_iload_n E.1 E.2.1 dX5_laysAnswers_72 rfl (lv_at hl 2 rfl) ?_
                refine lv_icmp_ne (tgt := 112) E.1 E.2.1 dX5_laysAnswers_73 (by decide) (fun c41 => ?_) (fun c41 => ?_)
                · replace hw := hw.1 (c41)
                  refine lv_iinc (k := 8) (v := x16 + nI 1) (lv' := [(8, .int (x16 + nI 1)), (9, .int (x38)), (0, .ref (ta 73)), (1, .int (i1)), (2, .int (i2)), (4, .int (i4)), (5, .int (x1)), (6, .int (x7)), (7, .int (x15))]) E.1 E.2.1 dX5_laysAnswers_112 hl rfl rfl (Nat.le_of_ble_eq_true rfl) rfl (fun ls hl => ?_)
                  refine lv_goto (tgt := 22) E.1 E.2.1 dX5_laysAnswers_115 (by decide) ?_
                  obtain ⟨n42, hnn42, hin42⟩ := hw
                  exact ih13 n42 hnn42 _ _ _ hin42 _ _ _ hT hS (lv_sub hl [2, 3, 4, 5, 6, 7, 8, 0] rfl)
                · replace hw := hw.2 (c41)
                  refine lv_iload E.1 E.2.1 dX5_laysAnswers_76 (lv_at hl 6 rfl) ?_
                  refine lv_aload_n E.1 E.2.1 dX5_laysAnswers_78 rfl (lv_at hl 1 rfl) ?_
                  refine tw_get E hK hT 26 (Nat.le_of_ble_eq_true rfl) q1836 rfl (v := .ref (ta 26)) rfl dX5_laysAnswers_79 ?_
                  refine lv_iload E.1 E.2.1 dX5_laysAnswers_82 (lv_at hl 0 rfl) ?_
                  obtain ⟨hin, hw⟩ := hw
                  refine tw_iald E hK hT 26 rfl hin dX5_laysAnswers_84 ?_
                  refine lv_aload_n E.1 E.2.1 dX5_laysAnswers_85 rfl (lv_at hl 1 rfl) ?_
                  refine tw_get E hK hT 27 (Nat.le_of_ble_eq_true rfl) q1837 rfl (v := .ref (ta 27)) rfl dX5_laysAnswers_86 ?_
                  refine lv_iload E.1 E.2.1 dX5_laysAnswers_89 (lv_at hl 0 rfl) ?_
                  obtain ⟨hin, hw⟩ := hw
                  refine tw_iald E hK hT 27 rfl hin dX5_laysAnswers_91 ?_
                  refine tw_callSz E hK hT hS (As := [.int (x7), .int (sf z12 26 x38.toNatClampNeg), .int (sf z12 27 x38.toNatClampNeg)]) (rest := []) (met_compares l G ta (d) hw) (va_cwS 3 E.2.2.2.2 (lw_S q2267 q2268 q128 q2269) rfl rfl rfl hs_compares (rm_ok (by omega) (by decide))) rfl rfl hl.1 (Nat.le_of_ble_eq_true rfl) dX5_laysAnswers_92 (fun b44 z43 H locs hw hT hS => ?_)
                  refine lv_if_eq (tgt := 112) E.1 E.2.1 dX5_laysAnswers_95 (by decide) (fun c45 => ?_) (fun c45 => ?_)
                  · replace hw := hw.1 (bi_z c45)
                    refine lv_iinc (k := 8) (v := x16 + nI 1) (lv' := [(8, .int (x16 + nI 1)), (9, .int (x38)), (0, .ref (ta 73)), (1, .int (i1)), (2, .int (i2)), (4, .int (i4)), (5, .int (x1)), (6, .int (x7)), (7, .int (x15))]) E.1 E.2.1 dX5_laysAnswers_112 hl rfl rfl (Nat.le_of_ble_eq_true rfl) rfl (fun ls hl => ?_)
                    refine lv_goto (tgt := 22) E.1 E.2.1 dX5_laysAnswers_115 (by decide) ?_
                    obtain ⟨n46, hnn46, hin46⟩ := hw
                    exact ih13 n46 hnn46 _ _ _ hin46 _ _ _ hT hS (lv_sub hl [2, 3, 4, 5, 6, 7, 8, 0] rfl)
                  · replace hw := hw.2 (bi_n c45)
                    refine lv_iload E.1 E.2.1 dX5_laysAnswers_98 (lv_at hl 7 rfl) ?_
                    refine lv_iconst (v := nI 1) E.1 E.2.1 dX5_laysAnswers_100 rfl ?_
                    refine lv_aload_n E.1 E.2.1 dX5_laysAnswers_101 rfl (lv_at hl 1 rfl) ?_
                    refine tw_get E hK hT 28 (Nat.le_of_ble_eq_true rfl) q1838 rfl (v := .ref (ta 28)) rfl dX5_laysAnswers_102 ?_
                    refine lv_iload E.1 E.2.1 dX5_laysAnswers_105 (lv_at hl 0 rfl) ?_
                    obtain ⟨hin, hw⟩ := hw
                    refine tw_iald E hK hT 28 rfl hin dX5_laysAnswers_107 ?_
                    refine lv_ishl E.1 E.2.1 dX5_laysAnswers_108 ?_
                    refine lv_ior E.1 E.2.1 dX5_laysAnswers_109 ?_
                    refine lv_topi (fun x47 ex47 => ?_)
                    replace hw := hw x47 ex47
                    refine lv_istore (lv' := [(7, .int (x47)), (9, .int (x38)), (0, .ref (ta 73)), (1, .int (i1)), (2, .int (i2)), (4, .int (i4)), (5, .int (x1)), (6, .int (x7)), (8, .int (x16))]) E.1 E.2.1 dX5_laysAnswers_110 hl (Nat.le_of_ble_eq_true rfl) rfl (fun ls hl => ?_)
                    refine lv_iinc (k := 8) (v := x16 + nI 1) (lv' := [(8, .int (x16 + nI 1)), (7, .int (x47)), (9, .int (x38)), (0, .ref (ta 73)), (1, .int (i1)), (2, .int (i2)), (4, .int (i4)), (5, .int (x1)), (6, .int (x7))]) E.1 E.2.1 dX5_laysAnswers_112 hl rfl rfl (Nat.le_of_ble_eq_true rfl) rfl (fun ls hl => ?_)
                    refine lv_goto (tgt := 22) E.1 E.2.1 dX5_laysAnswers_115 (by decide) ?_
                    obtain ⟨n48, hnn48, hin48⟩ := hw
                    exact ih13 n48 hnn48 _ _ _ hin48 _ _ _ hT hS (lv_sub hl [3, 4, 5, 6, 7, 8, 1, 0] rfl)
        exact L14 n17 _ _ _ hi50 _ _ _ hT hS (lv_sub hl [2, 3, 4, 5, 6, 7, 1, 0] rfl)
  exact L6 n8 _ _ hi52 _ _ _ hT hS (lv_sub hl [2, 3, 4, 6, 1, 0] rfl)
/-- isBy(III)Z -/
def wb_isBy (rc : (Bool → TS → Prop) → TS → Int32 → Int32 → Int32 → Prop) (post : Bool → TS → Prop) (z0 : TS) (i1 : Int32) (i2 : Int32) (i3 : Int32) : Prop := ∀ x1, x1 = ((nI 400) * (sx z0 29)) + i1 → ∃ I2 : Nat → TS → Int32 → Prop, (∃ n8, I2 n8 z0 x1) ∧ ∀ (n3 : Nat) (z4 : TS) (x7 : Int32), I2 n3 z4 x7 → vp_in (x7) 1200 ∧ (¬ (sf z4 25 x7.toNatClampNeg) = 0 → ∃ I10 : Nat → TS → Int32 → Prop, (∃ n16, I10 n16 z4 x7) ∧ ∀ (n11 : Nat) (z12 : TS) (x15 : Int32), I10 n11 z12 x15 → vp_in (x15) 1200 ∧ (¬ (sf z12 25 x15.toNatClampNeg) = (nI 1) → vp_in (x15) 1200 ∧ ∀ x18, x18 = sf z12 25 x15.toNatClampNeg → (¬ x18 = 0 → (¬ x18 = (nI 2) → ∃ J21 : TS → Int32 → Prop, (∀ (z23 : TS) (x24 : Int32), J21 z23 x24 → vp_in (x15) 1200 ∧ (¬ ((x24 >>> ((sf z23 28 x15.toNatClampNeg) &&& 31)) &&& (nI 1)) = (nI 1) → post false z23) ∧ (((x24 >>> ((sf z23 28 x15.toNatClampNeg) &&& 31)) &&& (nI 1)) = (nI 1) → post true z23)) ∧ (((nI 6) ≤ x18 → J21 z12 i3) ∧ (¬ (nI 6) ≤ x18 → J21 z12 i2))) ∧ (x18 = (nI 2) → vp_in (x15) 1200 ∧ rc (fun b29 z28 => (b29 = true → post false z28) ∧ (b29 = false → post true z28)) z12 (sf z12 26 x15.toNatClampNeg) i2 i3)) ∧ (x18 = 0 → rc (fun b32 z31 => post b32 z31) z12 (x15 - ((nI 400) * (sx z12 29))) i2 i3)) ∧ ((sf z12 25 x15.toNatClampNeg) = (nI 1) → vp_in (x15) 1200 ∧ rc (fun b34 z33 => (b34 = true → vp_in (x15) 1200 ∧ ∀ x36, x36 = ((nI 400) * (sx z33 29)) + (sf z33 26 x15.toNatClampNeg) → ∃ n37, n37 < n11 ∧ I10 n37 z33 x36) ∧ (b34 = false → post false z33)) z12 (sf z12 27 x15.toNatClampNeg) i2 i3)) ∧ ((sf z4 25 x7.toNatClampNeg) = 0 → vp_in (x7) 1200 ∧ rc (fun b41 z40 => (b41 = false → vp_in (x7) 1200 ∧ ∀ x43, x43 = ((nI 400) * (sx z40 29)) + (sf z40 26 x7.toNatClampNeg) → ∃ n44, n44 < n3 ∧ I2 n44 z40 x43) ∧ (b41 = true → post true z40)) z4 (sf z4 27 x7.toNatClampNeg) i2 i3)
theorem hd_isBy : yX5_isBy.cls = RX5 ∧ yX5_isBy.cls ≠ "java/lang/invoke/MethodHandle" ∧ yX5_isBy.cls ≠ "java/lang/invoke/VarHandle" ∧ (parseMethodDescriptor yX5_isBy.desc).map (fun d => d.parameters.length) = some 3 := by decide +kernel
def wp_isBy : Nat → (Bool → TS → Prop) → TS → Int32 → Int32 → Int32 → Prop
  | 0 => fun _ _ _ _ _ => False
  | k + 1 => wb_isBy (wp_isBy k)
def d_isBy : Nat := 401
set_option maxHeartbeats 4000000 in
theorem met_isBy (l : Launch) (G : GP) (ta : Nat → Nat) (d : Nat) : ∀ (k : Nat) {post : Bool → TS → Prop} {z0 : TS} {i1 : Int32} {i2 : Int32} {i3 : Int32}, wp_isBy k post z0 i1 i2 i3 → Met l yX5_isBy (ws_ yX5_isBy cX5_isBy 6 (some .boolean)) (rmd (d + k + 0) 0 0) (tPc G ta z0 [.ref (ta 73), .int (i1), .int (i2), .int (i3)]) (tQz G ta post) 0 0 (TA ta) := by
  intro k
  induction k with
  | zero => intro post z0 i1 i2 i3 hw; exact hw.elim
  | succ k ih =>
    intro post z0 i1 i2 i3 hw
    replace hw : wb_isBy (wp_isBy k) post z0 i1 i2 i3 := hw
    unfold wb_isBy at hw
    refine tw_met (by decide) rfl (Nat.le_of_ble_eq_true rfl) ?_
    intro p e s m args below meth c ls E hr hlocks hK hT hS hl
    replace hl : lv_has ls 6 [(0, .ref (ta 73)), (1, .int (i1)), (2, .int (i2)), (3, .int (i3))] := hl
    refine lv_sipush (v := nI 400) E.1 E.2.1 dX5_isBy_0 rfl ?_
    refine lv_aload_n E.1 E.2.1 dX5_isBy_3 rfl (lv_at hl 0 rfl) ?_
    refine tw_get E hK hT 29 (Nat.le_of_ble_eq_true rfl) q1839 rfl (v := .int (sx z0 29)) rfl dX5_isBy_4 ?_
    refine lv_imul E.1 E.2.1 dX5_isBy_7 ?_
    refine lv_iload_n E.1 E.2.1 dX5_isBy_8 rfl (lv_at hl 1 rfl) ?_
    refine lv_iadd E.1 E.2.1 dX5_isBy_9 ?_
    refine lv_topi (fun x1 ex1 => ?_)
    replace hw := hw x1 ex1
    refine lv_istore (lv' := [(4, .int (x1)), (0, .ref (ta 73)), (1, .int (i1)), (2, .int (i2)), (3, .int (i3))]) E.1 E.2.1 dX5_isBy_10 hl (Nat.le_of_ble_eq_true rfl) rfl (fun ls hl => ?_)
    obtain ⟨I2, ⟨n8, hi46⟩, hb45⟩ := hw
    have L6 : ∀ (n3 : Nat) (z4 : TS) (x7 : Int32), I2 n3 z4 x7 → ∀ (H : Heap) (locs : List Loc) (ls : Array Slot), TW G ta z4 H → va_S (TA ta) s.heap H locs → lv_has ls 6 [(0, .ref (ta 73)), (2, .int (i2)), (3, .int (i3)), (4, .int (x7))] → W p l e (rmd (d + (k + 1) + 0) 0 0) s m args below meth c H locs 0 0 (MQ below (tQz G ta post) args s 0 0 (TA ta)) (F0 m 12 ls []) := by
      intro n3
      induction n3 using Nat.strongRecOn with
      | _ n3 ih5 =>
        intro z4 x7 hw H locs ls hT hS hl
        replace hw := hb45 n3 z4 x7 hw
        refine lv_aload_n E.1 E.2.1 dX5_isBy_12 rfl (lv_at hl 0 rfl) ?_
        refine tw_get E hK hT 25 (Nat.le_of_ble_eq_true rfl) q1835 rfl (v := .ref (ta 25)) rfl dX5_isBy_13 ?_
        refine lv_iload E.1 E.2.1 dX5_isBy_16 (lv_at hl 3 rfl) ?_
        obtain ⟨hin, hw⟩ := hw
        refine tw_iald E hK hT 25 rfl hin dX5_isBy_18 ?_
        refine lv_if_ne (tgt := 61) E.1 E.2.1 dX5_isBy_19 (by decide) (fun c9 => ?_) (fun c9 => ?_)
        · replace hw := hw.1 (c9)
          obtain ⟨I10, ⟨n16, hi39⟩, hb38⟩ := hw
          have L14 : ∀ (n11 : Nat) (z12 : TS) (x15 : Int32), I10 n11 z12 x15 → ∀ (H : Heap) (locs : List Loc) (ls : Array Slot), TW G ta z12 H → va_S (TA ta) s.heap H locs → lv_has ls 6 [(0, .ref (ta 73)), (2, .int (i2)), (3, .int (i3)), (4, .int (x15))] → W p l e (rmd (d + (k + 1) + 0) 0 0) s m args below meth c H locs 0 0 (MQ below (tQz G ta post) args s 0 0 (TA ta)) (F0 m 61 ls []) := by
            intro n11
            induction n11 using Nat.strongRecOn with
            | _ n11 ih13 =>
              intro z12 x15 hw H locs ls hT hS hl
              replace hw := hb38 n11 z12 x15 hw
              refine lv_aload_n E.1 E.2.1 dX5_isBy_61 rfl (lv_at hl 0 rfl) ?_
              refine tw_get E hK hT 25 (Nat.le_of_ble_eq_true rfl) q1835 rfl (v := .ref (ta 25)) rfl dX5_isBy_62 ?_
              refine lv_iload E.1 E.2.1 dX5_isBy_65 (lv_at hl 3 rfl) ?_
              obtain ⟨hin, hw⟩ := hw
              refine tw_iald E hK hT 25 rfl hin dX5_isBy_67 ?_
              refine lv_iconst (v := nI 1) E.1 E.2.1 dX5_isBy_68 rfl ?_
              refine lv_icmp_ne (tgt := 111) E.1 E.2.1 dX5_isBy_69 (by decide) (fun c17 => ?_) (fun c17 => ?_)
              · replace hw := hw.1 (c17)
                refine lv_aload_n E.1 E.2.1 dX5_isBy_111 rfl (lv_at hl 0 rfl) ?_
                refine tw_get E hK hT 25 (Nat.le_of_ble_eq_true rfl) q1835 rfl (v := .ref (ta 25)) rfl dX5_isBy_112 ?_
                refine lv_iload E.1 E.2.1 dX5_isBy_115 (lv_at hl 3 rfl) ?_
                obtain ⟨hin, hw⟩ := hw
                refine tw_iald E hK hT 25 rfl hin dX5_isBy_117 ?_
                refine lv_topi (fun x18 ex18 => ?_)
                replace hw := hw x18 ex18
                refine lv_istore (lv' := [(5, .int (x18)), (0, .ref (ta 73)), (2, .int (i2)), (3, .int (i3)), (4, .int (x15))]) E.1 E.2.1 dX5_isBy_118 hl (Nat.le_of_ble_eq_true rfl) rfl (fun ls hl => ?_)
                refine lv_iload E.1 E.2.1 dX5_isBy_120 (lv_at hl 0 rfl) ?_
                refine lv_if_ne (tgt := 143) E.1 E.2.1 dX5_isBy_122 (by decide) (fun c19 => ?_) (fun c19 => ?_)
                · replace hw := hw.1 (c19)
                  refine lv_iload E.1 E.2.1 dX5_isBy_143 (lv_at hl 0 rfl) ?_
                  refine lv_iconst (v := nI 2) E.1 E.2.1 dX5_isBy_145 rfl ?_
                  refine lv_icmp_ne (tgt := 171) E.1 E.2.1 dX5_isBy_146 (by decide) (fun c20 => ?_) (fun c20 => ?_)
                  · replace hw := hw.1 (c20)
                    obtain ⟨J21, hj27, hw⟩ := hw
                    have jh22 : ∀ (z23 : TS) (x24 : Int32), J21 z23 x24 → ∀ (H : Heap) (locs : List Loc) (ls : Array Slot), TW G ta z23 H → va_S (TA ta) s.heap H locs → lv_has ls 6 [(0, .ref (ta 73)), (4, .int (x15))] → W p l e (rmd (d + (k + 1) + 0) 0 0) s m args below meth c H locs 0 0 (MQ below (tQz G ta post) args s 0 0 (TA ta)) (F0 m 183 ls [.int (x24)]) := by
                      intro z23 x24 hw H locs ls hT hS hl
                      replace hw := hj27 z23 x24 hw
                      refine lv_aload_n E.1 E.2.1 dX5_isBy_183 rfl (lv_at hl 0 rfl) ?_
                      refine tw_get E hK hT 28 (Nat.le_of_ble_eq_true rfl) q1838 rfl (v := .ref (ta 28)) rfl dX5_isBy_184 ?_
                      refine lv_iload E.1 E.2.1 dX5_isBy_187 (lv_at hl 1 rfl) ?_
                      obtain ⟨hin, hw⟩ := hw
                      refine tw_iald E hK hT 28 rfl hin dX5_isBy_189 ?_
                      refine lv_ishr E.1 E.2.1 dX5_isBy_190 ?_
                      refine lv_iconst (v := nI 1) E.1 E.2.1 dX5_isBy_191 rfl ?_
                      refine lv_iand E.1 E.2.1 dX5_isBy_192 ?_
                      refine lv_iconst (v := nI 1) E.1 E.2.1 dX5_isBy_193 rfl ?_
                      refine lv_icmp_ne (tgt := 201) E.1 E.2.1 dX5_isBy_194 (by decide) (fun c25 => ?_) (fun c25 => ?_)
                      · replace hw := hw.1 (c25)
                        refine lv_iconst (v := nI 0) E.1 E.2.1 dX5_isBy_201 rfl ?_
                        exact tw_iretz (b := false) E hr hlocks hT hS rfl hw dX5_isBy_202
                      · replace hw := hw.2 (c25)
                        refine lv_iconst (v := nI 1) E.1 E.2.1 dX5_isBy_197 rfl ?_
                        refine lv_goto (tgt := 202) E.1 E.2.1 dX5_isBy_198 (by decide) ?_
                        exact tw_iretz (b := true) E hr hlocks hT hS rfl hw dX5_isBy_202
                    refine lv_iload E.1 E.2.1 dX5_isBy_171 (lv_at hl 0 rfl) ?_
                    refine lv_bipush (v := nI 6) E.1 E.2.1 dX5_isBy_173 rfl ?_
                    refine lv_icmp_ge (tgt := 182) E.1 E.2.1 dX5_isBy_175 (by decide) (fun c26 => ?_) (fun c26 => ?_)
                    · replace hw := hw.1 (c26)
                      refine lv_iload_n E.1 E.2.1 dX5_isBy_182 rfl (lv_at hl 3 rfl) ?_
                      exact jh22 _ _ hw _ _ _ hT hS (lv_sub hl [1, 4] rfl)
                    · replace hw := hw.2 (c26)
                      refine lv_iload_n E.1 E.2.1 dX5_isBy_178 rfl (lv_at hl 2 rfl) ?_
                      refine lv_goto (tgt := 183) E.1 E.2.1 dX5_isBy_179 (by decide) ?_
                      exact jh22 _ _ hw _ _ _ hT hS (lv_sub hl [1, 4] rfl)
                  · replace hw := hw.2 (c20)
                    refine lv_aload_n E.1 E.2.1 dX5_isBy_149 rfl (lv_at hl 1 rfl) ?_
                    refine lv_aload_n E.1 E.2.1 dX5_isBy_150 rfl (lv_at hl 1 rfl) ?_
                    refine tw_get E hK hT 26 (Nat.le_of_ble_eq_true rfl) q1836 rfl (v := .ref (ta 26)) rfl dX5_isBy_151 ?_
                    refine lv_iload E.1 E.2.1 dX5_isBy_154 (lv_at hl 4 rfl) ?_
                    obtain ⟨hin, hw⟩ := hw
                    refine tw_iald E hK hT 26 rfl hin dX5_isBy_156 ?_
                    refine lv_iload_n E.1 E.2.1 dX5_isBy_157 rfl (lv_at hl 2 rfl) ?_
                    refine lv_iload_n E.1 E.2.1 dX5_isBy_158 rfl (lv_at hl 3 rfl) ?_
                    refine tw_callVz E hK hT hS (As := [.int (sf z12 26 x15.toNatClampNeg), .int (i2), .int (i3)]) (rest := []) (ih hw) (cwV 3 E.2.2.2.2 (lw_V q2274 q2276 qs100 q128 q2277) rfl rfl rfl hd_isBy (rm_ok (by omega) (by decide))) rfl rfl hl.1 (Nat.le_of_ble_eq_true rfl) dX5_isBy_159 (fun b29 z28 H locs hw hT hS => ?_)
                    refine lv_if_ne (tgt := 169) E.1 E.2.1 dX5_isBy_162 (by decide) (fun c30 => ?_) (fun c30 => ?_)
                    · replace hw := hw.1 (bi_n c30)
                      refine lv_iconst (v := nI 0) E.1 E.2.1 dX5_isBy_169 rfl ?_
                      exact tw_iretz (b := false) E hr hlocks hT hS rfl hw dX5_isBy_170
                    · replace hw := hw.2 (bi_z c30)
                      refine lv_iconst (v := nI 1) E.1 E.2.1 dX5_isBy_165 rfl ?_
                      refine lv_goto (tgt := 170) E.1 E.2.1 dX5_isBy_166 (by decide) ?_
                      exact tw_iretz (b := true) E hr hlocks hT hS rfl hw dX5_isBy_170
                · replace hw := hw.2 (c19)
                  refine lv_aload_n E.1 E.2.1 dX5_isBy_125 rfl (lv_at hl 1 rfl) ?_
                  refine lv_iload E.1 E.2.1 dX5_isBy_126 (lv_at hl 4 rfl) ?_
                  refine lv_sipush (v := nI 400) E.1 E.2.1 dX5_isBy_128 rfl ?_
                  refine lv_aload_n E.1 E.2.1 dX5_isBy_131 rfl (lv_at hl 1 rfl) ?_
                  refine tw_get E hK hT 29 (Nat.le_of_ble_eq_true rfl) q1839 rfl (v := .int (sx z12 29)) rfl dX5_isBy_132 ?_
                  refine lv_imul E.1 E.2.1 dX5_isBy_135 ?_
                  refine lv_isub E.1 E.2.1 dX5_isBy_136 ?_
                  refine lv_iload_n E.1 E.2.1 dX5_isBy_137 rfl (lv_at hl 2 rfl) ?_
                  refine lv_iload_n E.1 E.2.1 dX5_isBy_138 rfl (lv_at hl 3 rfl) ?_
                  refine tw_callVz E hK hT hS (As := [.int (x15 - ((nI 400) * (sx z12 29))), .int (i2), .int (i3)]) (rest := []) (ih hw) (cwV 3 E.2.2.2.2 (lw_V q2274 q2276 qs100 q128 q2277) rfl rfl rfl hd_isBy (rm_ok (by omega) (by decide))) rfl rfl hl.1 (Nat.le_of_ble_eq_true rfl) dX5_isBy_139 (fun b32 z31 H locs hw hT hS => ?_)
                  exact tw_iretz (b := b32) E hr hlocks hT hS rfl hw dX5_isBy_142
              · replace hw := hw.2 (c17)
                refine lv_aload_n E.1 E.2.1 dX5_isBy_72 rfl (lv_at hl 0 rfl) ?_
                refine lv_aload_n E.1 E.2.1 dX5_isBy_73 rfl (lv_at hl 0 rfl) ?_
                refine tw_get E hK hT 27 (Nat.le_of_ble_eq_true rfl) q1837 rfl (v := .ref (ta 27)) rfl dX5_isBy_74 ?_
                refine lv_iload E.1 E.2.1 dX5_isBy_77 (lv_at hl 3 rfl) ?_
                obtain ⟨hin, hw⟩ := hw
                refine tw_iald E hK hT 27 rfl hin dX5_isBy_79 ?_
                refine lv_iload_n E.1 E.2.1 dX5_isBy_80 rfl (lv_at hl 1 rfl) ?_
                refine lv_iload_n E.1 E.2.1 dX5_isBy_81 rfl (lv_at hl 2 rfl) ?_
                refine tw_callVz E hK hT hS (As := [.int (sf z12 27 x15.toNatClampNeg), .int (i2), .int (i3)]) (rest := []) (ih hw) (cwV 3 E.2.2.2.2 (lw_V q2274 q2276 qs100 q128 q2277) rfl rfl rfl hd_isBy (rm_ok (by omega) (by decide))) rfl rfl hl.1 (Nat.le_of_ble_eq_true rfl) dX5_isBy_82 (fun b34 z33 H locs hw hT hS => ?_)
                refine lv_if_ne (tgt := 90) E.1 E.2.1 dX5_isBy_85 (by decide) (fun c35 => ?_) (fun c35 => ?_)
                · replace hw := hw.1 (bi_n c35)
                  refine lv_sipush (v := nI 400) E.1 E.2.1 dX5_isBy_90 rfl ?_
                  refine lv_aload_n E.1 E.2.1 dX5_isBy_93 rfl (lv_at hl 0 rfl) ?_
                  refine tw_get E hK hT 29 (Nat.le_of_ble_eq_true rfl) q1839 rfl (v := .int (sx z33 29)) rfl dX5_isBy_94 ?_
                  refine lv_imul E.1 E.2.1 dX5_isBy_97 ?_
                  refine lv_aload_n E.1 E.2.1 dX5_isBy_98 rfl (lv_at hl 0 rfl) ?_
                  refine tw_get E hK hT 26 (Nat.le_of_ble_eq_true rfl) q1836 rfl (v := .ref (ta 26)) rfl dX5_isBy_99 ?_
                  refine lv_iload E.1 E.2.1 dX5_isBy_102 (lv_at hl 3 rfl) ?_
                  obtain ⟨hin, hw⟩ := hw
                  refine tw_iald E hK hT 26 rfl hin dX5_isBy_104 ?_
                  refine lv_iadd E.1 E.2.1 dX5_isBy_105 ?_
                  refine lv_topi (fun x36 ex36 => ?_)
                  replace hw := hw x36 ex36
                  refine lv_istore (lv' := [(4, .int (x36)), (0, .ref (ta 73)), (2, .int (i2)), (3, .int (i3))]) E.1 E.2.1 dX5_isBy_106 hl (Nat.le_of_ble_eq_true rfl) rfl (fun ls hl => ?_)
                  refine lv_goto (tgt := 61) E.1 E.2.1 dX5_isBy_108 (by decide) ?_
                  obtain ⟨n37, hnn37, hin37⟩ := hw
                  exact ih13 n37 hnn37 _ _ hin37 _ _ _ hT hS (lv_sub hl [1, 2, 3, 0] rfl)
                · replace hw := hw.2 (bi_z c35)
                  refine lv_iconst (v := nI 0) E.1 E.2.1 dX5_isBy_88 rfl ?_
                  exact tw_iretz (b := false) E hr hlocks hT hS rfl hw dX5_isBy_89
          exact L14 n16 _ _ hi39 _ _ _ hT hS (lv_sub hl [0, 1, 2, 3] rfl)
        · replace hw := hw.2 (c9)
          refine lv_aload_n E.1 E.2.1 dX5_isBy_22 rfl (lv_at hl 0 rfl) ?_
          refine lv_aload_n E.1 E.2.1 dX5_isBy_23 rfl (lv_at hl 0 rfl) ?_
          refine tw_get E hK hT 27 (Nat.le_of_ble_eq_true rfl) q1837 rfl (v := .ref (ta 27)) rfl dX5_isBy_24 ?_
          refine lv_iload E.1 E.2.1 dX5_isBy_27 (lv_at hl 3 rfl) ?_
          obtain ⟨hin, hw⟩ := hw
          refine tw_iald E hK hT 27 rfl hin dX5_isBy_29 ?_
          refine lv_iload_n E.1 E.2.1 dX5_isBy_30 rfl (lv_at hl 1 rfl) ?_
          refine lv_iload_n E.1 E.2.1 dX5_isBy_31 rfl (lv_at hl 2 rfl) ?_
          refine tw_callVz E hK hT hS (As := [.int (sf z4 27 x7.toNatClampNeg), .int (i2), .int (i3)]) (rest := []) (ih hw) (cwV 3 E.2.2.2.2 (lw_V q2274 q2276 qs100 q128 q2277) rfl rfl rfl hd_isBy (rm_ok (by omega) (by decide))) rfl rfl hl.1 (Nat.le_of_ble_eq_true rfl) dX5_isBy_32 (fun b41 z40 H locs hw hT hS => ?_)
          refine lv_if_eq (tgt := 40) E.1 E.2.1 dX5_isBy_35 (by decide) (fun c42 => ?_) (fun c42 => ?_)
          · replace hw := hw.1 (bi_z c42)
            refine lv_sipush (v := nI 400) E.1 E.2.1 dX5_isBy_40 rfl ?_
            refine lv_aload_n E.1 E.2.1 dX5_isBy_43 rfl (lv_at hl 0 rfl) ?_
            refine tw_get E hK hT 29 (Nat.le_of_ble_eq_true rfl) q1839 rfl (v := .int (sx z40 29)) rfl dX5_isBy_44 ?_
            refine lv_imul E.1 E.2.1 dX5_isBy_47 ?_
            refine lv_aload_n E.1 E.2.1 dX5_isBy_48 rfl (lv_at hl 0 rfl) ?_
            refine tw_get E hK hT 26 (Nat.le_of_ble_eq_true rfl) q1836 rfl (v := .ref (ta 26)) rfl dX5_isBy_49 ?_
            refine lv_iload E.1 E.2.1 dX5_isBy_52 (lv_at hl 3 rfl) ?_
            obtain ⟨hin, hw⟩ := hw
            refine tw_iald E hK hT 26 rfl hin dX5_isBy_54 ?_
            refine lv_iadd E.1 E.2.1 dX5_isBy_55 ?_
            refine lv_topi (fun x43 ex43 => ?_)
            replace hw := hw x43 ex43
            refine lv_istore (lv' := [(4, .int (x43)), (0, .ref (ta 73)), (2, .int (i2)), (3, .int (i3))]) E.1 E.2.1 dX5_isBy_56 hl (Nat.le_of_ble_eq_true rfl) rfl (fun ls hl => ?_)
            refine lv_goto (tgt := 12) E.1 E.2.1 dX5_isBy_58 (by decide) ?_
            obtain ⟨n44, hnn44, hin44⟩ := hw
            exact ih5 n44 hnn44 _ _ hin44 _ _ _ hT hS (lv_sub hl [1, 2, 3, 0] rfl)
          · replace hw := hw.2 (bi_n c42)
            refine lv_iconst (v := nI 1) E.1 E.2.1 dX5_isBy_38 rfl ?_
            exact tw_iretz (b := true) E hr hlocks hT hS rfl hw dX5_isBy_39
    exact L6 n8 _ _ hi46 _ _ _ hT hS (lv_sub hl [1, 3, 4, 0] rfl)
/-- reaches(IIII)V -/
def wb_reaches (rc : (TS → Prop) → TS → Int32 → Int32 → Int32 → Int32 → Prop) (post : TS → Prop) (z0 : TS) (i1 : Int32) (i2 : Int32) (i3 : Int32) (i4 : Int32) : Prop := (¬ i3 = (nI 4) → vp_in (i3) 5 ∧ ∀ x2, x2 = sf z0 70 i3.toNatClampNeg → ∃ I3 : Nat → TS → Int32 → Prop, (∃ n9, I3 n9 z0 x2) ∧ ∀ (n4 : Nat) (z5 : TS) (x8 : Int32), I3 n4 z5 x8 → vp_in (i3 + (nI 1)) 5 ∧ ((sf z5 70 (i3 + (nI 1)).toNatClampNeg) ≤ x8 → post z5) ∧ (¬ (sf z5 70 (i3 + (nI 1)).toNatClampNeg) ≤ x8 → vp_in (x8) 1700 ∧ rc (fun z11 => ∃ n12, n12 < n4 ∧ I3 n12 z11 (x8 + nI 1)) z5 i1 i2 (i3 + (nI 1)) (i4 ||| (sf z5 69 x8.toNatClampNeg)))) ∧ (i3 = (nI 4) → vp_in (((nI 6) * (sx z0 29)) + i1) 18 ∧ ∀ x15, x15 = sf z0 8 (((nI 6) * (sx z0 29)) + i1).toNatClampNeg → ∃ I16 : Nat → TS → Int32 → Prop, (∃ n22, I16 n22 z0 x15) ∧ ∀ (n17 : Nat) (z18 : TS) (x21 : Int32), I16 n17 z18 x21 → vp_in (((nI 40) * (sx z18 29)) + x21) 120 ∧ (0 ≤ (sf z18 20 (((nI 40) * (sx z18 29)) + x21).toNatClampNeg) → vp_in (x21) 40 ∧ ∀ z24, z24 = uf z18 68 x21.toNatClampNeg (nI 1) → post z24) ∧ (¬ 0 ≤ (sf z18 20 (((nI 40) * (sx z18 29)) + x21).toNatClampNeg) → vp_in (((nI 40) * (sx z18 29)) + x21) 120 ∧ wp_isBy d_isBy (fun b26 z25 => (b26 = false → vp_in (((nI 40) * (sx z25 29)) + x21) 120 ∧ ∀ x28, x28 = sf z25 23 (((nI 40) * (sx z25 29)) + x21).toNatClampNeg → ∃ n29, n29 < n17 ∧ I16 n29 z25 x28) ∧ (b26 = true → vp_in (((nI 40) * (sx z25 29)) + x21) 120 ∧ ∀ x30, x30 = sf z25 22 (((nI 40) * (sx z25 29)) + x21).toNatClampNeg → ∃ n31, n31 < n17 ∧ I16 n31 z25 x30)) z18 (sf z18 21 (((nI 40) * (sx z18 29)) + x21).toNatClampNeg) i2 i4))
theorem hd_reaches : yX5_reaches.cls = RX5 ∧ yX5_reaches.cls ≠ "java/lang/invoke/MethodHandle" ∧ yX5_reaches.cls ≠ "java/lang/invoke/VarHandle" ∧ (parseMethodDescriptor yX5_reaches.desc).map (fun d => d.parameters.length) = some 4 := by decide +kernel
def wp_reaches : Nat → (TS → Prop) → TS → Int32 → Int32 → Int32 → Int32 → Prop
  | 0 => fun _ _ _ _ _ _ => False
  | k + 1 => wb_reaches (wp_reaches k)
def d_reaches : Nat := 5
set_option maxHeartbeats 4000000 in
theorem met_reaches (l : Launch) (G : GP) (ta : Nat → Nat) (d : Nat) : ∀ (k : Nat) {post : TS → Prop} {z0 : TS} {i1 : Int32} {i2 : Int32} {i3 : Int32} {i4 : Int32}, wp_reaches k post z0 i1 i2 i3 i4 → Met l yX5_reaches (ws_ yX5_reaches cX5_reaches 6 none) (rmd (d + k + 402) 0 0) (tPc G ta z0 [.ref (ta 73), .int (i1), .int (i2), .int (i3), .int (i4)]) (tQv G ta post) 0 0 (TA ta) := by
  intro k
  induction k with
  | zero => intro post z0 i1 i2 i3 i4 hw; exact hw.elim
  | succ k ih =>
    intro post z0 i1 i2 i3 i4 hw
    replace hw : wb_reaches (wp_reaches k) post z0 i1 i2 i3 i4 := hw
    have hD_isBy : d_isBy = 401 := rfl
    unfold wb_reaches at hw
    refine tw_met (by decide) rfl (Nat.le_of_ble_eq_true rfl) ?_
    intro p e s m args below meth c ls E hr hlocks hK hT hS hl
    replace hl : lv_has ls 6 [(0, .ref (ta 73)), (1, .int (i1)), (2, .int (i2)), (3, .int (i3)), (4, .int (i4))] := hl
    refine lv_iload_n E.1 E.2.1 dX5_reaches_0 rfl (lv_at hl 3 rfl) ?_
    refine lv_iconst (v := nI 4) E.1 E.2.1 dX5_reaches_1 rfl ?_
    refine lv_icmp_ne (tgt := 111) E.1 E.2.1 dX5_reaches_2 (by decide) (fun c1 => ?_) (fun c1 => ?_)
    · replace hw := hw.1 (c1)
      refine lv_aload_n E.1 E.2.1 dX5_reaches_111 rfl (lv_at hl 0 rfl) ?_
      refine tw_get E hK hT 70 (Nat.le_of_ble_eq_true rfl) q1880 rfl (v := .ref (ta 70)) rfl dX5_reaches_112 ?_
      refine lv_iload_n E.1 E.2.1 dX5_reaches_115 rfl (lv_at hl 3 rfl) ?_
      obtain ⟨hin, hw⟩ := hw
      refine tw_iald E hK hT 70 rfl hin dX5_reaches_116 ?_
      refine lv_topi (fun x2 ex2 => ?_)
      replace hw := hw x2 ex2
      refine lv_istore (lv' := [(5, .int (x2)), (0, .ref (ta 73)), (1, .int (i1)), (2, .int (i2)), (3, .int (i3)), (4, .int (i4))]) E.1 E.2.1 dX5_reaches_117 hl (Nat.le_of_ble_eq_true rfl) rfl (fun ls hl => ?_)
      obtain ⟨I3, ⟨n9, hi14⟩, hb13⟩ := hw
      have L7 : ∀ (n4 : Nat) (z5 : TS) (x8 : Int32), I3 n4 z5 x8 → ∀ (H : Heap) (locs : List Loc) (ls : Array Slot), TW G ta z5 H → va_S (TA ta) s.heap H locs → lv_has ls 6 [(0, .ref (ta 73)), (1, .int (i1)), (2, .int (i2)), (3, .int (i3)), (4, .int (i4)), (5, .int (x8))] → W p l e (rmd (d + (k + 1) + 402) 0 0) s m args below meth c H locs 0 0 (MQ below (tQv G ta post) args s 0 0 (TA ta)) (F0 m 119 ls []) := by
        intro n4
        induction n4 using Nat.strongRecOn with
        | _ n4 ih6 =>
          intro z5 x8 hw H locs ls hT hS hl
          replace hw := hb13 n4 z5 x8 hw
          refine lv_iload E.1 E.2.1 dX5_reaches_119 (lv_at hl 5 rfl) ?_
          refine lv_aload_n E.1 E.2.1 dX5_reaches_121 rfl (lv_at hl 0 rfl) ?_
          refine tw_get E hK hT 70 (Nat.le_of_ble_eq_true rfl) q1880 rfl (v := .ref (ta 70)) rfl dX5_reaches_122 ?_
          refine lv_iload_n E.1 E.2.1 dX5_reaches_125 rfl (lv_at hl 3 rfl) ?_
          refine lv_iconst (v := nI 1) E.1 E.2.1 dX5_reaches_126 rfl ?_
          refine lv_iadd E.1 E.2.1 dX5_reaches_127 ?_
          obtain ⟨hin, hw⟩ := hw
          refine tw_iald E hK hT 70 rfl hin dX5_reaches_128 ?_
          refine lv_icmp_ge (tgt := 157) E.1 E.2.1 dX5_reaches_129 (by decide) (fun c10 => ?_) (fun c10 => ?_)
          · replace hw := hw.1 (c10)
            exact tw_vret E hr hlocks hT hS hw dX5_reaches_157
          · replace hw := hw.2 (c10)
            refine lv_aload_n E.1 E.2.1 dX5_reaches_132 rfl (lv_at hl 0 rfl) ?_
            refine lv_iload_n E.1 E.2.1 dX5_reaches_133 rfl (lv_at hl 1 rfl) ?_
            refine lv_iload_n E.1 E.2.1 dX5_reaches_134 rfl (lv_at hl 2 rfl) ?_
            refine lv_iload_n E.1 E.2.1 dX5_reaches_135 rfl (lv_at hl 3 rfl) ?_
            refine lv_iconst (v := nI 1) E.1 E.2.1 dX5_reaches_136 rfl ?_
            refine lv_iadd E.1 E.2.1 dX5_reaches_137 ?_
            refine lv_iload E.1 E.2.1 dX5_reaches_138 (lv_at hl 4 rfl) ?_
            refine lv_aload_n E.1 E.2.1 dX5_reaches_140 rfl (lv_at hl 0 rfl) ?_
            refine tw_get E hK hT 69 (Nat.le_of_ble_eq_true rfl) q1879 rfl (v := .ref (ta 69)) rfl dX5_reaches_141 ?_
            refine lv_iload E.1 E.2.1 dX5_reaches_144 (lv_at hl 5 rfl) ?_
            obtain ⟨hin, hw⟩ := hw
            refine tw_iald E hK hT 69 rfl hin dX5_reaches_146 ?_
            refine lv_ior E.1 E.2.1 dX5_reaches_147 ?_
            refine tw_callVv E hK hT hS (As := [.int (i1), .int (i2), .int (i3 + (nI 1)), .int (i4 ||| (sf z5 69 x8.toNatClampNeg))]) (rest := []) (ih hw) (cwV 4 E.2.2.2.2 (lw_V q2270 q2272 qs99 q128 q2273) rfl rfl rfl hd_reaches (rm_ok (by omega) (by decide))) rfl rfl hl.1 (Nat.le_of_ble_eq_true rfl) dX5_reaches_148 (fun z11 H locs hw hT hS => ?_)
            refine lv_iinc (k := 5) (v := x8 + nI 1) (lv' := [(5, .int (x8 + nI 1)), (0, .ref (ta 73)), (1, .int (i1)), (2, .int (i2)), (3, .int (i3)), (4, .int (i4))]) E.1 E.2.1 dX5_reaches_151 hl rfl rfl (Nat.le_of_ble_eq_true rfl) rfl (fun ls hl => ?_)
            refine lv_goto (tgt := 119) E.1 E.2.1 dX5_reaches_154 (by decide) ?_
            obtain ⟨n12, hnn12, hin12⟩ := hw
            exact ih6 n12 hnn12 _ _ hin12 _ _ _ hT hS (lv_sub hl [1, 2, 3, 4, 5, 0] rfl)
      exact L7 n9 _ _ hi14 _ _ _ hT hS (lv_sub hl [1, 2, 3, 4, 5, 0] rfl)
    · replace hw := hw.2 (c1)
      refine lv_aload_n E.1 E.2.1 dX5_reaches_5 rfl (lv_at hl 0 rfl) ?_
      refine tw_get E hK hT 8 (Nat.le_of_ble_eq_true rfl) q1818 rfl (v := .ref (ta 8)) rfl dX5_reaches_6 ?_
      refine lv_bipush (v := nI 6) E.1 E.2.1 dX5_reaches_9 rfl ?_
      refine lv_aload_n E.1 E.2.1 dX5_reaches_11 rfl (lv_at hl 0 rfl) ?_
      refine tw_get E hK hT 29 (Nat.le_of_ble_eq_true rfl) q1839 rfl (v := .int (sx z0 29)) rfl dX5_reaches_12 ?_
      refine lv_imul E.1 E.2.1 dX5_reaches_15 ?_
      refine lv_iload_n E.1 E.2.1 dX5_reaches_16 rfl (lv_at hl 1 rfl) ?_
      refine lv_iadd E.1 E.2.1 dX5_reaches_17 ?_
      obtain ⟨hin, hw⟩ := hw
      refine tw_iald E hK hT 8 rfl hin dX5_reaches_18 ?_
      refine lv_topi (fun x15 ex15 => ?_)
      replace hw := hw x15 ex15
      refine lv_istore (lv' := [(5, .int (x15)), (0, .ref (ta 73)), (1, .int (i1)), (2, .int (i2)), (3, .int (i3)), (4, .int (i4))]) E.1 E.2.1 dX5_reaches_19 hl (Nat.le_of_ble_eq_true rfl) rfl (fun ls hl => ?_)
      obtain ⟨I16, ⟨n22, hi33⟩, hb32⟩ := hw
      have L20 : ∀ (n17 : Nat) (z18 : TS) (x21 : Int32), I16 n17 z18 x21 → ∀ (H : Heap) (locs : List Loc) (ls : Array Slot), TW G ta z18 H → va_S (TA ta) s.heap H locs → lv_has ls 6 [(0, .ref (ta 73)), (2, .int (i2)), (4, .int (i4)), (5, .int (x21))] → W p l e (rmd (d + (k + 1) + 402) 0 0) s m args below meth c H locs 0 0 (MQ below (tQv G ta post) args s 0 0 (TA ta)) (F0 m 21 ls []) := by
        intro n17
        induction n17 using Nat.strongRecOn with
        | _ n17 ih19 =>
          intro z18 x21 hw H locs ls hT hS hl
          replace hw := hb32 n17 z18 x21 hw
          refine lv_aload_n E.1 E.2.1 dX5_reaches_21 rfl (lv_at hl 0 rfl) ?_
          refine tw_get E hK hT 20 (Nat.le_of_ble_eq_true rfl) q1830 rfl (v := .ref (ta 20)) rfl dX5_reaches_22 ?_
          refine lv_bipush (v := nI 40) E.1 E.2.1 dX5_reaches_25 rfl ?_
          refine lv_aload_n E.1 E.2.1 dX5_reaches_27 rfl (lv_at hl 0 rfl) ?_
          refine tw_get E hK hT 29 (Nat.le_of_ble_eq_true rfl) q1839 rfl (v := .int (sx z18 29)) rfl dX5_reaches_28 ?_
          refine lv_imul E.1 E.2.1 dX5_reaches_31 ?_
          refine lv_iload E.1 E.2.1 dX5_reaches_32 (lv_at hl 3 rfl) ?_
          refine lv_iadd E.1 E.2.1 dX5_reaches_34 ?_
          obtain ⟨hin, hw⟩ := hw
          refine tw_iald E hK hT 20 rfl hin dX5_reaches_35 ?_
          refine lv_if_ge (tgt := 102) E.1 E.2.1 dX5_reaches_36 (by decide) (fun c23 => ?_) (fun c23 => ?_)
          · replace hw := hw.1 (c23)
            refine lv_aload_n E.1 E.2.1 dX5_reaches_102 rfl (lv_at hl 0 rfl) ?_
            refine tw_get E hK hT 68 (Nat.le_of_ble_eq_true rfl) q1878 rfl (v := .ref (ta 68)) rfl dX5_reaches_103 ?_
            refine lv_iload E.1 E.2.1 dX5_reaches_106 (lv_at hl 3 rfl) ?_
            refine lv_iconst (v := nI 1) E.1 E.2.1 dX5_reaches_108 rfl ?_
            obtain ⟨hin, hw⟩ := hw
            refine tw_zast E hK hT hS hin rfl dX5_reaches_109 (fun H locs hT hS => ?_)
            obtain ⟨z24, ez24⟩ : ∃ y, y = uf z18 68 x21.toNatClampNeg (nI 1) := ⟨_, rfl⟩
            rw [← ez24] at hT
            replace hw := hw z24 ez24
            exact tw_vret E hr hlocks hT hS hw dX5_reaches_110
          · replace hw := hw.2 (c23)
            refine lv_aload_n E.1 E.2.1 dX5_reaches_39 rfl (lv_at hl 0 rfl) ?_
            refine lv_aload_n E.1 E.2.1 dX5_reaches_40 rfl (lv_at hl 0 rfl) ?_
            refine tw_get E hK hT 21 (Nat.le_of_ble_eq_true rfl) q1831 rfl (v := .ref (ta 21)) rfl dX5_reaches_41 ?_
            refine lv_bipush (v := nI 40) E.1 E.2.1 dX5_reaches_44 rfl ?_
            refine lv_aload_n E.1 E.2.1 dX5_reaches_46 rfl (lv_at hl 0 rfl) ?_
            refine tw_get E hK hT 29 (Nat.le_of_ble_eq_true rfl) q1839 rfl (v := .int (sx z18 29)) rfl dX5_reaches_47 ?_
            refine lv_imul E.1 E.2.1 dX5_reaches_50 ?_
            refine lv_iload E.1 E.2.1 dX5_reaches_51 (lv_at hl 3 rfl) ?_
            refine lv_iadd E.1 E.2.1 dX5_reaches_53 ?_
            obtain ⟨hin, hw⟩ := hw
            refine tw_iald E hK hT 21 rfl hin dX5_reaches_54 ?_
            refine lv_iload_n E.1 E.2.1 dX5_reaches_55 rfl (lv_at hl 1 rfl) ?_
            refine lv_iload E.1 E.2.1 dX5_reaches_56 (lv_at hl 2 rfl) ?_
            refine tw_callVz E hK hT hS (As := [.int (sf z18 21 (((nI 40) * (sx z18 29)) + x21).toNatClampNeg), .int (i2), .int (i4)]) (rest := []) (met_isBy l G ta (d + k + 1) d_isBy hw) (cwV 3 E.2.2.2.2 (lw_V q2274 q2276 qs100 q128 q2277) rfl rfl rfl hd_isBy (rm_ok (by omega) (by decide))) rfl rfl hl.1 (Nat.le_of_ble_eq_true rfl) dX5_reaches_58 (fun b26 z25 H locs hw hT hS => ?_)
            refine lv_if_eq (tgt := 82) E.1 E.2.1 dX5_reaches_61 (by decide) (fun c27 => ?_) (fun c27 => ?_)
            · replace hw := hw.1 (bi_z c27)
              refine lv_aload_n E.1 E.2.1 dX5_reaches_82 rfl (lv_at hl 0 rfl) ?_
              refine tw_get E hK hT 23 (Nat.le_of_ble_eq_true rfl) q1833 rfl (v := .ref (ta 23)) rfl dX5_reaches_83 ?_
              refine lv_bipush (v := nI 40) E.1 E.2.1 dX5_reaches_86 rfl ?_
              refine lv_aload_n E.1 E.2.1 dX5_reaches_88 rfl (lv_at hl 0 rfl) ?_
              refine tw_get E hK hT 29 (Nat.le_of_ble_eq_true rfl) q1839 rfl (v := .int (sx z25 29)) rfl dX5_reaches_89 ?_
              refine lv_imul E.1 E.2.1 dX5_reaches_92 ?_
              refine lv_iload E.1 E.2.1 dX5_reaches_93 (lv_at hl 3 rfl) ?_
              refine lv_iadd E.1 E.2.1 dX5_reaches_95 ?_
              obtain ⟨hin, hw⟩ := hw
              refine tw_iald E hK hT 23 rfl hin dX5_reaches_96 ?_
              refine lv_topi (fun x28 ex28 => ?_)
              replace hw := hw x28 ex28
              refine lv_istore (lv' := [(5, .int (x28)), (0, .ref (ta 73)), (2, .int (i2)), (4, .int (i4))]) E.1 E.2.1 dX5_reaches_97 hl (Nat.le_of_ble_eq_true rfl) rfl (fun ls hl => ?_)
              refine lv_goto (tgt := 21) E.1 E.2.1 dX5_reaches_99 (by decide) ?_
              obtain ⟨n29, hnn29, hin29⟩ := hw
              exact ih19 n29 hnn29 _ _ hin29 _ _ _ hT hS (lv_sub hl [1, 2, 3, 0] rfl)
            · replace hw := hw.2 (bi_n c27)
              refine lv_aload_n E.1 E.2.1 dX5_reaches_64 rfl (lv_at hl 0 rfl) ?_
              refine tw_get E hK hT 22 (Nat.le_of_ble_eq_true rfl) q1832 rfl (v := .ref (ta 22)) rfl dX5_reaches_65 ?_
              refine lv_bipush (v := nI 40) E.1 E.2.1 dX5_reaches_68 rfl ?_
              refine lv_aload_n E.1 E.2.1 dX5_reaches_70 rfl (lv_at hl 0 rfl) ?_
              refine tw_get E hK hT 29 (Nat.le_of_ble_eq_true rfl) q1839 rfl (v := .int (sx z25 29)) rfl dX5_reaches_71 ?_
              refine lv_imul E.1 E.2.1 dX5_reaches_74 ?_
              refine lv_iload E.1 E.2.1 dX5_reaches_75 (lv_at hl 3 rfl) ?_
              refine lv_iadd E.1 E.2.1 dX5_reaches_77 ?_
              obtain ⟨hin, hw⟩ := hw
              refine tw_iald E hK hT 22 rfl hin dX5_reaches_78 ?_
              refine lv_goto (tgt := 97) E.1 E.2.1 dX5_reaches_79 (by decide) ?_
              refine lv_topi (fun x30 ex30 => ?_)
              replace hw := hw x30 ex30
              refine lv_istore (lv' := [(5, .int (x30)), (0, .ref (ta 73)), (2, .int (i2)), (4, .int (i4))]) E.1 E.2.1 dX5_reaches_97 hl (Nat.le_of_ble_eq_true rfl) rfl (fun ls hl => ?_)
              refine lv_goto (tgt := 21) E.1 E.2.1 dX5_reaches_99 (by decide) ?_
              obtain ⟨n31, hnn31, hin31⟩ := hw
              exact ih19 n31 hnn31 _ _ hin31 _ _ _ hT hS (lv_sub hl [1, 2, 3, 0] rfl)
      exact L20 n22 _ _ hi33 _ _ _ hT hS (lv_sub hl [1, 3, 5, 0] rfl)
/-- laysReached(I)V -/
def wp_laysReached (post : TS → Prop) (z0 : TS) (i1 : Int32) : Prop := ∀ z1, z1 = ux z0 71 (nI 0) → vp_in (nI 0) 5 ∧ ∀ z2, z2 = uf z1 70 (nI 0).toNatClampNeg (nI 0) → wp_laysAnswers (fun z3 => vp_in (nI 1) 5 ∧ ∀ z4, z4 = uf z3 70 (nI 1).toNatClampNeg (sx z3 71) → wp_laysAnswers (fun z5 => vp_in (nI 2) 5 ∧ ∀ z6, z6 = uf z5 70 (nI 2).toNatClampNeg (sx z5 71) → wp_laysAnswers (fun z7 => vp_in (nI 3) 5 ∧ ∀ z8, z8 = uf z7 70 (nI 3).toNatClampNeg (sx z7 71) → wp_laysAnswers (fun z9 => vp_in (nI 4) 5 ∧ ∀ z10, z10 = uf z9 70 (nI 4).toNatClampNeg (sx z9 71) → ∃ I11 : Nat → TS → Int32 → Prop, (∃ n17, I11 n17 z10 (nI 0)) ∧ ∀ (n12 : Nat) (z13 : TS) (x16 : Int32), I11 n12 z13 x16 → ((nI 64) ≤ x16 → post z13) ∧ (¬ (nI 64) ≤ x16 → wp_reaches d_reaches (fun z19 => ∃ n20, n20 < n12 ∧ I11 n20 z19 (x16 + nI 1)) z13 i1 x16 (nI 0) (nI 0))) z8 i1 (nI 9) (nI 0) (nI 9)) z6 i1 (nI 8) (nI 0) (nI 3)) z4 i1 (nI 7) (nI 1) (nI 400)) z2 i1 (nI 6) (nI 0) (nI 120)
theorem hd_laysReached : yX5_laysReached.cls = RX5 ∧ yX5_laysReached.cls ≠ "java/lang/invoke/MethodHandle" ∧ yX5_laysReached.cls ≠ "java/lang/invoke/VarHandle" ∧ (parseMethodDescriptor yX5_laysReached.desc).map (fun d => d.parameters.length) = some 1 := by decide +kernel
set_option maxHeartbeats 4000000 in
theorem met_laysReached (l : Launch) (G : GP) (ta : Nat → Nat) (d : Nat) {post : TS → Prop} {z0 : TS} {i1 : Int32} (hw : wp_laysReached post z0 i1) : Met l yX5_laysReached (ws_ yX5_laysReached cX5_laysReached 3 none) (rmd (d + 408) 0 0) (tPc G ta z0 [.ref (ta 73), .int (i1)]) (tQv G ta post) 0 0 (TA ta) := by
  have hD_reaches : d_reaches = 5 := rfl
  unfold wp_laysReached at hw
  refine tw_met (by decide) rfl (Nat.le_of_ble_eq_true rfl) ?_
  intro p e s m args below meth c ls E hr hlocks hK hT hS hl
  replace hl : lv_has ls 3 [(0, .ref (ta 73)), (1, .int (i1))] := hl
  refine lv_aload_n E.1 E.2.1 dX5_laysReached_0 rfl (lv_at hl 0 rfl) ?_
  refine lv_iconst (v := nI 0) E.1 E.2.1 dX5_laysReached_1 rfl ?_
  refine tw_puti E hK hT hS 71 (Nat.le_of_ble_eq_true rfl) q1881 rfl rfl rfl rfl dX5_laysReached_2 (fun H locs hT hS => ?_)
  obtain ⟨z1, ez1⟩ : ∃ y, y = ux z0 71 (nI 0) := ⟨_, rfl⟩
  rw [← ez1] at hT
  replace hw := hw z1 ez1
  refine lv_aload_n E.1 E.2.1 dX5_laysReached_5 rfl (lv_at hl 0 rfl) ?_
  refine tw_get E hK hT 70 (Nat.le_of_ble_eq_true rfl) q1880 rfl (v := .ref (ta 70)) rfl dX5_laysReached_6 ?_
  refine lv_iconst (v := nI 0) E.1 E.2.1 dX5_laysReached_9 rfl ?_
  refine lv_iconst (v := nI 0) E.1 E.2.1 dX5_laysReached_10 rfl ?_
  obtain ⟨hin, hw⟩ := hw
  refine tw_iast E hK hT hS 70 rfl hin dX5_laysReached_11 (fun H locs hT hS => ?_)
  obtain ⟨z2, ez2⟩ : ∃ y, y = uf z1 70 (nI 0).toNatClampNeg (nI 0) := ⟨_, rfl⟩
  rw [← ez2] at hT
  replace hw := hw z2 ez2
  refine lv_aload_n E.1 E.2.1 dX5_laysReached_12 rfl (lv_at hl 0 rfl) ?_
  refine lv_iload_n E.1 E.2.1 dX5_laysReached_13 rfl (lv_at hl 1 rfl) ?_
  refine lv_bipush (v := nI 6) E.1 E.2.1 dX5_laysReached_14 rfl ?_
  refine lv_iconst (v := nI 0) E.1 E.2.1 dX5_laysReached_16 rfl ?_
  refine lv_bipush (v := nI 120) E.1 E.2.1 dX5_laysReached_17 rfl ?_
  refine tw_callVv E hK hT hS (As := [.int (i1), .int (nI 6), .int (nI 0), .int (nI 120)]) (rest := []) (met_laysAnswers l G ta (d + 406) hw) (cwV 4 E.2.2.2.2 (lw_V q2263 q2265 qs98 q128 q2266) rfl rfl rfl hd_laysAnswers (rm_ok (by omega) (by decide))) rfl rfl hl.1 (Nat.le_of_ble_eq_true rfl) dX5_laysReached_19 (fun z3 H locs hw hT hS => ?_)
  refine lv_aload_n E.1 E.2.1 dX5_laysReached_22 rfl (lv_at hl 0 rfl) ?_
  refine tw_get E hK hT 70 (Nat.le_of_ble_eq_true rfl) q1880 rfl (v := .ref (ta 70)) rfl dX5_laysReached_23 ?_
  refine lv_iconst (v := nI 1) E.1 E.2.1 dX5_laysReached_26 rfl ?_
  refine lv_aload_n E.1 E.2.1 dX5_laysReached_27 rfl (lv_at hl 0 rfl) ?_
  refine tw_get E hK hT 71 (Nat.le_of_ble_eq_true rfl) q1881 rfl (v := .int (sx z3 71)) rfl dX5_laysReached_28 ?_
  obtain ⟨hin, hw⟩ := hw
  refine tw_iast E hK hT hS 70 rfl hin dX5_laysReached_31 (fun H locs hT hS => ?_)
  obtain ⟨z4, ez4⟩ : ∃ y, y = uf z3 70 (nI 1).toNatClampNeg (sx z3 71) := ⟨_, rfl⟩
  rw [← ez4] at hT
  replace hw := hw z4 ez4
  refine lv_aload_n E.1 E.2.1 dX5_laysReached_32 rfl (lv_at hl 0 rfl) ?_
  refine lv_iload_n E.1 E.2.1 dX5_laysReached_33 rfl (lv_at hl 1 rfl) ?_
  refine lv_bipush (v := nI 7) E.1 E.2.1 dX5_laysReached_34 rfl ?_
  refine lv_iconst (v := nI 1) E.1 E.2.1 dX5_laysReached_36 rfl ?_
  refine lv_sipush (v := nI 400) E.1 E.2.1 dX5_laysReached_37 rfl ?_
  refine tw_callVv E hK hT hS (As := [.int (i1), .int (nI 7), .int (nI 1), .int (nI 400)]) (rest := []) (met_laysAnswers l G ta (d + 406) hw) (cwV 4 E.2.2.2.2 (lw_V q2263 q2265 qs98 q128 q2266) rfl rfl rfl hd_laysAnswers (rm_ok (by omega) (by decide))) rfl rfl hl.1 (Nat.le_of_ble_eq_true rfl) dX5_laysReached_40 (fun z5 H locs hw hT hS => ?_)
  refine lv_aload_n E.1 E.2.1 dX5_laysReached_43 rfl (lv_at hl 0 rfl) ?_
  refine tw_get E hK hT 70 (Nat.le_of_ble_eq_true rfl) q1880 rfl (v := .ref (ta 70)) rfl dX5_laysReached_44 ?_
  refine lv_iconst (v := nI 2) E.1 E.2.1 dX5_laysReached_47 rfl ?_
  refine lv_aload_n E.1 E.2.1 dX5_laysReached_48 rfl (lv_at hl 0 rfl) ?_
  refine tw_get E hK hT 71 (Nat.le_of_ble_eq_true rfl) q1881 rfl (v := .int (sx z5 71)) rfl dX5_laysReached_49 ?_
  obtain ⟨hin, hw⟩ := hw
  refine tw_iast E hK hT hS 70 rfl hin dX5_laysReached_52 (fun H locs hT hS => ?_)
  obtain ⟨z6, ez6⟩ : ∃ y, y = uf z5 70 (nI 2).toNatClampNeg (sx z5 71) := ⟨_, rfl⟩
  rw [← ez6] at hT
  replace hw := hw z6 ez6
  refine lv_aload_n E.1 E.2.1 dX5_laysReached_53 rfl (lv_at hl 0 rfl) ?_
  refine lv_iload_n E.1 E.2.1 dX5_laysReached_54 rfl (lv_at hl 1 rfl) ?_
  refine lv_bipush (v := nI 8) E.1 E.2.1 dX5_laysReached_55 rfl ?_
  refine lv_iconst (v := nI 0) E.1 E.2.1 dX5_laysReached_57 rfl ?_
  refine lv_iconst (v := nI 3) E.1 E.2.1 dX5_laysReached_58 rfl ?_
  refine tw_callVv E hK hT hS (As := [.int (i1), .int (nI 8), .int (nI 0), .int (nI 3)]) (rest := []) (met_laysAnswers l G ta (d + 406) hw) (cwV 4 E.2.2.2.2 (lw_V q2263 q2265 qs98 q128 q2266) rfl rfl rfl hd_laysAnswers (rm_ok (by omega) (by decide))) rfl rfl hl.1 (Nat.le_of_ble_eq_true rfl) dX5_laysReached_59 (fun z7 H locs hw hT hS => ?_)
  refine lv_aload_n E.1 E.2.1 dX5_laysReached_62 rfl (lv_at hl 0 rfl) ?_
  refine tw_get E hK hT 70 (Nat.le_of_ble_eq_true rfl) q1880 rfl (v := .ref (ta 70)) rfl dX5_laysReached_63 ?_
  refine lv_iconst (v := nI 3) E.1 E.2.1 dX5_laysReached_66 rfl ?_
  refine lv_aload_n E.1 E.2.1 dX5_laysReached_67 rfl (lv_at hl 0 rfl) ?_
  refine tw_get E hK hT 71 (Nat.le_of_ble_eq_true rfl) q1881 rfl (v := .int (sx z7 71)) rfl dX5_laysReached_68 ?_
  obtain ⟨hin, hw⟩ := hw
  refine tw_iast E hK hT hS 70 rfl hin dX5_laysReached_71 (fun H locs hT hS => ?_)
  obtain ⟨z8, ez8⟩ : ∃ y, y = uf z7 70 (nI 3).toNatClampNeg (sx z7 71) := ⟨_, rfl⟩
  rw [← ez8] at hT
  replace hw := hw z8 ez8
  refine lv_aload_n E.1 E.2.1 dX5_laysReached_72 rfl (lv_at hl 0 rfl) ?_
  refine lv_iload_n E.1 E.2.1 dX5_laysReached_73 rfl (lv_at hl 1 rfl) ?_
  refine lv_bipush (v := nI 9) E.1 E.2.1 dX5_laysReached_74 rfl ?_
  refine lv_iconst (v := nI 0) E.1 E.2.1 dX5_laysReached_76 rfl ?_
  refine lv_bipush (v := nI 9) E.1 E.2.1 dX5_laysReached_77 rfl ?_
  refine tw_callVv E hK hT hS (As := [.int (i1), .int (nI 9), .int (nI 0), .int (nI 9)]) (rest := []) (met_laysAnswers l G ta (d + 406) hw) (cwV 4 E.2.2.2.2 (lw_V q2263 q2265 qs98 q128 q2266) rfl rfl rfl hd_laysAnswers (rm_ok (by omega) (by decide))) rfl rfl hl.1 (Nat.le_of_ble_eq_true rfl) dX5_laysReached_79 (fun z9 H locs hw hT hS => ?_)
  refine lv_aload_n E.1 E.2.1 dX5_laysReached_82 rfl (lv_at hl 0 rfl) ?_
  refine tw_get E hK hT 70 (Nat.le_of_ble_eq_true rfl) q1880 rfl (v := .ref (ta 70)) rfl dX5_laysReached_83 ?_
  refine lv_iconst (v := nI 4) E.1 E.2.1 dX5_laysReached_86 rfl ?_
  refine lv_aload_n E.1 E.2.1 dX5_laysReached_87 rfl (lv_at hl 0 rfl) ?_
  refine tw_get E hK hT 71 (Nat.le_of_ble_eq_true rfl) q1881 rfl (v := .int (sx z9 71)) rfl dX5_laysReached_88 ?_
  obtain ⟨hin, hw⟩ := hw
  refine tw_iast E hK hT hS 70 rfl hin dX5_laysReached_91 (fun H locs hT hS => ?_)
  obtain ⟨z10, ez10⟩ : ∃ y, y = uf z9 70 (nI 4).toNatClampNeg (sx z9 71) := ⟨_, rfl⟩
  rw [← ez10] at hT
  replace hw := hw z10 ez10
  refine lv_iconst (v := nI 0) E.1 E.2.1 dX5_laysReached_92 rfl ?_
  refine lv_istore_n (lv' := [(2, .int (nI 0)), (0, .ref (ta 73)), (1, .int (i1))]) E.1 E.2.1 dX5_laysReached_93 rfl hl (Nat.le_of_ble_eq_true rfl) rfl (fun ls hl => ?_)
  obtain ⟨I11, ⟨n17, hi22⟩, hb21⟩ := hw
  have L15 : ∀ (n12 : Nat) (z13 : TS) (x16 : Int32), I11 n12 z13 x16 → ∀ (H : Heap) (locs : List Loc) (ls : Array Slot), TW G ta z13 H → va_S (TA ta) s.heap H locs → lv_has ls 3 [(0, .ref (ta 73)), (1, .int (i1)), (2, .int (x16))] → W p l e (rmd (d + 408) 0 0) s m args below meth c H locs 0 0 (MQ below (tQv G ta post) args s 0 0 (TA ta)) (F0 m 94 ls []) := by
    intro n12
    induction n12 using Nat.strongRecOn with
    | _ n12 ih14 =>
      intro z13 x16 hw H locs ls hT hS hl
      replace hw := hb21 n12 z13 x16 hw
      refine lv_iload_n E.1 E.2.1 dX5_laysReached_94 rfl (lv_at hl 2 rfl) ?_
      refine lv_bipush (v := nI 64) E.1 E.2.1 dX5_laysReached_95 rfl ?_
      refine lv_icmp_ge (tgt := 114) E.1 E.2.1 dX5_laysReached_97 (by decide) (fun c18 => ?_) (fun c18 => ?_)
      · replace hw := hw.1 (c18)
        exact tw_vret E hr hlocks hT hS hw dX5_laysReached_114
      · replace hw := hw.2 (c18)
        refine lv_aload_n E.1 E.2.1 dX5_laysReached_100 rfl (lv_at hl 0 rfl) ?_
        refine lv_iload_n E.1 E.2.1 dX5_laysReached_101 rfl (lv_at hl 1 rfl) ?_
        refine lv_iload_n E.1 E.2.1 dX5_laysReached_102 rfl (lv_at hl 2 rfl) ?_
        refine lv_iconst (v := nI 0) E.1 E.2.1 dX5_laysReached_103 rfl ?_
        refine lv_iconst (v := nI 0) E.1 E.2.1 dX5_laysReached_104 rfl ?_
        refine tw_callVv E hK hT hS (As := [.int (i1), .int (x16), .int (nI 0), .int (nI 0)]) (rest := []) (met_reaches l G ta (d) d_reaches hw) (cwV 4 E.2.2.2.2 (lw_V q2270 q2272 qs99 q128 q2273) rfl rfl rfl hd_reaches (rm_ok (by omega) (by decide))) rfl rfl hl.1 (Nat.le_of_ble_eq_true rfl) dX5_laysReached_105 (fun z19 H locs hw hT hS => ?_)
        refine lv_iinc (k := 2) (v := x16 + nI 1) (lv' := [(2, .int (x16 + nI 1)), (0, .ref (ta 73)), (1, .int (i1))]) E.1 E.2.1 dX5_laysReached_108 hl rfl rfl (Nat.le_of_ble_eq_true rfl) rfl (fun ls hl => ?_)
        refine lv_goto (tgt := 94) E.1 E.2.1 dX5_laysReached_111 (by decide) ?_
        obtain ⟨n20, hnn20, hin20⟩ := hw
        exact ih14 n20 hnn20 _ _ hin20 _ _ _ hT hS (lv_sub hl [1, 2, 0] rfl)
  exact L15 n17 _ _ hi22 _ _ _ hT hS (lv_sub hl [1, 2, 0] rfl)
/-- marks(II)V -/
def wb_marks (rc : (TS → Prop) → TS → Int32 → Int32 → Prop) (post : TS → Prop) (z0 : TS) (i1 : Int32) (i2 : Int32) : Prop := ∀ x1, x1 = ((nI 400) * (sx z0 29)) + i2 → vp_in (x1) 1200 ∧ ∀ z2, z2 = uf z0 72 x1.toNatClampNeg i1 → ∃ I3 : Nat → TS → Int32 → Prop, (∃ n9, I3 n9 z2 x1) ∧ ∀ (n4 : Nat) (z5 : TS) (x8 : Int32), I3 n4 z5 x8 → vp_in (x8) 1200 ∧ ((nI 1) < (sf z5 25 x8.toNatClampNeg) → vp_in (x8) 1200 ∧ (¬ (sf z5 25 x8.toNatClampNeg) = (nI 2) → post z5) ∧ ((sf z5 25 x8.toNatClampNeg) = (nI 2) → vp_in (x8) 1200 ∧ rc (fun z12 => post z12) z5 i1 (sf z5 26 x8.toNatClampNeg))) ∧ (¬ (nI 1) < (sf z5 25 x8.toNatClampNeg) → vp_in (x8) 1200 ∧ rc (fun z13 => vp_in (x8) 1200 ∧ ∀ x14, x14 = ((nI 400) * (sx z13 29)) + (sf z13 26 x8.toNatClampNeg) → vp_in (x14) 1200 ∧ ∀ z15, z15 = uf z13 72 x14.toNatClampNeg i1 → ∃ n16, n16 < n4 ∧ I3 n16 z15 x14) z5 i1 (sf z5 27 x8.toNatClampNeg))
theorem hd_marks : yX5_marks.cls = RX5 ∧ yX5_marks.cls ≠ "java/lang/invoke/MethodHandle" ∧ yX5_marks.cls ≠ "java/lang/invoke/VarHandle" ∧ (parseMethodDescriptor yX5_marks.desc).map (fun d => d.parameters.length) = some 2 := by decide +kernel
def wp_marks : Nat → (TS → Prop) → TS → Int32 → Int32 → Prop
  | 0 => fun _ _ _ _ => False
  | k + 1 => wb_marks (wp_marks k)
def d_marks : Nat := 401
set_option maxHeartbeats 4000000 in
theorem met_marks (l : Launch) (G : GP) (ta : Nat → Nat) (d : Nat) : ∀ (k : Nat) {post : TS → Prop} {z0 : TS} {i1 : Int32} {i2 : Int32}, wp_marks k post z0 i1 i2 → Met l yX5_marks (ws_ yX5_marks cX5_marks 4 none) (rmd (d + k + 0) 0 0) (tPc G ta z0 [.ref (ta 73), .int (i1), .int (i2)]) (tQv G ta post) 0 0 (TA ta) := by
  intro k
  induction k with
  | zero => intro post z0 i1 i2 hw; exact hw.elim
  | succ k ih =>
    intro post z0 i1 i2 hw
    replace hw : wb_marks (wp_marks k) post z0 i1 i2 := hw
    unfold wb_marks at hw
    refine tw_met (by decide) rfl (Nat.le_of_ble_eq_true rfl) ?_
    intro p e s m args below meth c ls E hr hlocks hK hT hS hl
    replace hl : lv_has ls 4 [(0, .ref (ta 73)), (1, .int (i1)), (2, .int (i2))] := hl
    refine lv_sipush (v := nI 400) E.1 E.2.1 dX5_marks_0 rfl ?_
    refine lv_aload_n E.1 E.2.1 dX5_marks_3 rfl (lv_at hl 0 rfl) ?_
    refine tw_get E hK hT 29 (Nat.le_of_ble_eq_true rfl) q1839 rfl (v := .int (sx z0 29)) rfl dX5_marks_4 ?_
    refine lv_imul E.1 E.2.1 dX5_marks_7 ?_
    refine lv_iload_n E.1 E.2.1 dX5_marks_8 rfl (lv_at hl 2 rfl) ?_
    refine lv_iadd E.1 E.2.1 dX5_marks_9 ?_
    refine lv_topi (fun x1 ex1 => ?_)
    replace hw := hw x1 ex1
    refine lv_istore_n (lv' := [(3, .int (x1)), (0, .ref (ta 73)), (1, .int (i1)), (2, .int (i2))]) E.1 E.2.1 dX5_marks_10 rfl hl (Nat.le_of_ble_eq_true rfl) rfl (fun ls hl => ?_)
    refine lv_aload_n E.1 E.2.1 dX5_marks_11 rfl (lv_at hl 1 rfl) ?_
    refine tw_get E hK hT 72 (Nat.le_of_ble_eq_true rfl) q1882 rfl (v := .ref (ta 72)) rfl dX5_marks_12 ?_
    refine lv_iload_n E.1 E.2.1 dX5_marks_15 rfl (lv_at hl 0 rfl) ?_
    refine lv_iload_n E.1 E.2.1 dX5_marks_16 rfl (lv_at hl 2 rfl) ?_
    obtain ⟨hin, hw⟩ := hw
    refine tw_iast E hK hT hS 72 rfl hin dX5_marks_17 (fun H locs hT hS => ?_)
    obtain ⟨z2, ez2⟩ : ∃ y, y = uf z0 72 x1.toNatClampNeg i1 := ⟨_, rfl⟩
    rw [← ez2] at hT
    replace hw := hw z2 ez2
    obtain ⟨I3, ⟨n9, hi18⟩, hb17⟩ := hw
    have L7 : ∀ (n4 : Nat) (z5 : TS) (x8 : Int32), I3 n4 z5 x8 → ∀ (H : Heap) (locs : List Loc) (ls : Array Slot), TW G ta z5 H → va_S (TA ta) s.heap H locs → lv_has ls 4 [(0, .ref (ta 73)), (1, .int (i1)), (3, .int (x8))] → W p l e (rmd (d + (k + 1) + 0) 0 0) s m args below meth c H locs 0 0 (MQ below (tQv G ta post) args s 0 0 (TA ta)) (F0 m 18 ls []) := by
      intro n4
      induction n4 using Nat.strongRecOn with
      | _ n4 ih6 =>
        intro z5 x8 hw H locs ls hT hS hl
        replace hw := hb17 n4 z5 x8 hw
        refine lv_aload_n E.1 E.2.1 dX5_marks_18 rfl (lv_at hl 0 rfl) ?_
        refine tw_get E hK hT 25 (Nat.le_of_ble_eq_true rfl) q1835 rfl (v := .ref (ta 25)) rfl dX5_marks_19 ?_
        refine lv_iload_n E.1 E.2.1 dX5_marks_22 rfl (lv_at hl 2 rfl) ?_
        obtain ⟨hin, hw⟩ := hw
        refine tw_iald E hK hT 25 rfl hin dX5_marks_23 ?_
        refine lv_iconst (v := nI 1) E.1 E.2.1 dX5_marks_24 rfl ?_
        refine lv_icmp_gt (tgt := 65) E.1 E.2.1 dX5_marks_25 (by decide) (fun c10 => ?_) (fun c10 => ?_)
        · replace hw := hw.1 (c10)
          refine lv_aload_n E.1 E.2.1 dX5_marks_65 rfl (lv_at hl 0 rfl) ?_
          refine tw_get E hK hT 25 (Nat.le_of_ble_eq_true rfl) q1835 rfl (v := .ref (ta 25)) rfl dX5_marks_66 ?_
          refine lv_iload_n E.1 E.2.1 dX5_marks_69 rfl (lv_at hl 2 rfl) ?_
          obtain ⟨hin, hw⟩ := hw
          refine tw_iald E hK hT 25 rfl hin dX5_marks_70 ?_
          refine lv_iconst (v := nI 2) E.1 E.2.1 dX5_marks_71 rfl ?_
          refine lv_icmp_ne (tgt := 86) E.1 E.2.1 dX5_marks_72 (by decide) (fun c11 => ?_) (fun c11 => ?_)
          · replace hw := hw.1 (c11)
            exact tw_vret E hr hlocks hT hS hw dX5_marks_86
          · replace hw := hw.2 (c11)
            refine lv_aload_n E.1 E.2.1 dX5_marks_75 rfl (lv_at hl 0 rfl) ?_
            refine lv_iload_n E.1 E.2.1 dX5_marks_76 rfl (lv_at hl 1 rfl) ?_
            refine lv_aload_n E.1 E.2.1 dX5_marks_77 rfl (lv_at hl 0 rfl) ?_
            refine tw_get E hK hT 26 (Nat.le_of_ble_eq_true rfl) q1836 rfl (v := .ref (ta 26)) rfl dX5_marks_78 ?_
            refine lv_iload_n E.1 E.2.1 dX5_marks_81 rfl (lv_at hl 2 rfl) ?_
            obtain ⟨hin, hw⟩ := hw
            refine tw_iald E hK hT 26 rfl hin dX5_marks_82 ?_
            refine tw_callVv E hK hT hS (As := [.int (i1), .int (sf z5 26 x8.toNatClampNeg)]) (rest := []) (ih hw) (cwV 2 E.2.2.2.2 (lw_V q2255 q2257 qs96 q128 q2258) rfl rfl rfl hd_marks (rm_ok (by omega) (by decide))) rfl rfl hl.1 (Nat.le_of_ble_eq_true rfl) dX5_marks_83 (fun z12 H locs hw hT hS => ?_)
            exact tw_vret E hr hlocks hT hS hw dX5_marks_86
        · replace hw := hw.2 (c10)
          refine lv_aload_n E.1 E.2.1 dX5_marks_28 rfl (lv_at hl 0 rfl) ?_
          refine lv_iload_n E.1 E.2.1 dX5_marks_29 rfl (lv_at hl 1 rfl) ?_
          refine lv_aload_n E.1 E.2.1 dX5_marks_30 rfl (lv_at hl 0 rfl) ?_
          refine tw_get E hK hT 27 (Nat.le_of_ble_eq_true rfl) q1837 rfl (v := .ref (ta 27)) rfl dX5_marks_31 ?_
          refine lv_iload_n E.1 E.2.1 dX5_marks_34 rfl (lv_at hl 2 rfl) ?_
          obtain ⟨hin, hw⟩ := hw
          refine tw_iald E hK hT 27 rfl hin dX5_marks_35 ?_
          refine tw_callVv E hK hT hS (As := [.int (i1), .int (sf z5 27 x8.toNatClampNeg)]) (rest := []) (ih hw) (cwV 2 E.2.2.2.2 (lw_V q2255 q2257 qs96 q128 q2258) rfl rfl rfl hd_marks (rm_ok (by omega) (by decide))) rfl rfl hl.1 (Nat.le_of_ble_eq_true rfl) dX5_marks_36 (fun z13 H locs hw hT hS => ?_)
          refine lv_sipush (v := nI 400) E.1 E.2.1 dX5_marks_39 rfl ?_
          refine lv_aload_n E.1 E.2.1 dX5_marks_42 rfl (lv_at hl 0 rfl) ?_
          refine tw_get E hK hT 29 (Nat.le_of_ble_eq_true rfl) q1839 rfl (v := .int (sx z13 29)) rfl dX5_marks_43 ?_
          refine lv_imul E.1 E.2.1 dX5_marks_46 ?_
          refine lv_aload_n E.1 E.2.1 dX5_marks_47 rfl (lv_at hl 0 rfl) ?_
          refine tw_get E hK hT 26 (Nat.le_of_ble_eq_true rfl) q1836 rfl (v := .ref (ta 26)) rfl dX5_marks_48 ?_
          refine lv_iload_n E.1 E.2.1 dX5_marks_51 rfl (lv_at hl 2 rfl) ?_
          obtain ⟨hin, hw⟩ := hw
          refine tw_iald E hK hT 26 rfl hin dX5_marks_52 ?_
          refine lv_iadd E.1 E.2.1 dX5_marks_53 ?_
          refine lv_topi (fun x14 ex14 => ?_)
          replace hw := hw x14 ex14
          refine lv_istore_n (lv' := [(3, .int (x14)), (0, .ref (ta 73)), (1, .int (i1))]) E.1 E.2.1 dX5_marks_54 rfl hl (Nat.le_of_ble_eq_true rfl) rfl (fun ls hl => ?_)
          refine lv_aload_n E.1 E.2.1 dX5_marks_55 rfl (lv_at hl 1 rfl) ?_
          refine tw_get E hK hT 72 (Nat.le_of_ble_eq_true rfl) q1882 rfl (v := .ref (ta 72)) rfl dX5_marks_56 ?_
          refine lv_iload_n E.1 E.2.1 dX5_marks_59 rfl (lv_at hl 0 rfl) ?_
          refine lv_iload_n E.1 E.2.1 dX5_marks_60 rfl (lv_at hl 2 rfl) ?_
          obtain ⟨hin, hw⟩ := hw
          refine tw_iast E hK hT hS 72 rfl hin dX5_marks_61 (fun H locs hT hS => ?_)
          obtain ⟨z15, ez15⟩ : ∃ y, y = uf z13 72 x14.toNatClampNeg i1 := ⟨_, rfl⟩
          rw [← ez15] at hT
          replace hw := hw z15 ez15
          refine lv_goto (tgt := 18) E.1 E.2.1 dX5_marks_62 (by decide) ?_
          obtain ⟨n16, hnn16, hin16⟩ := hw
          exact ih6 n16 hnn16 _ _ hin16 _ _ _ hT hS (lv_sub hl [1, 2, 0] rfl)
    exact L7 n9 _ _ hi18 _ _ _ hT hS (lv_sub hl [1, 2, 0] rfl)
/-- nodes(I)I -/
def wp_nodes (post : Int32 → TS → Prop) (z0 : TS) (i1 : Int32) : Prop := vp_in (((nI 7) * i1) + (nI 4)) 21 ∧ post (sf z0 3 (((nI 7) * i1) + (nI 4)).toNatClampNeg) z0
theorem hd_nodes : yX5_nodes.cls = RX5 ∧ yX5_nodes.cls ≠ "java/lang/invoke/MethodHandle" ∧ yX5_nodes.cls ≠ "java/lang/invoke/VarHandle" ∧ (parseMethodDescriptor yX5_nodes.desc).map (fun d => d.parameters.length) = some 1 := by decide +kernel
set_option maxHeartbeats 4000000 in
theorem met_nodes (l : Launch) (G : GP) (ta : Nat → Nat) (d : Nat) {post : Int32 → TS → Prop} {z0 : TS} {i1 : Int32} (hw : wp_nodes post z0 i1) : Met l yX5_nodes (ws_ yX5_nodes cX5_nodes 2 (some .int)) (rmd (d + 0) 0 0) (tPc G ta z0 [.ref (ta 73), .int (i1)]) (tQi G ta post) 0 0 (TA ta) := by
  unfold wp_nodes at hw
  refine tw_met (by decide) rfl (Nat.le_of_ble_eq_true rfl) ?_
  intro p e s m args below meth c ls E hr hlocks hK hT hS hl
  replace hl : lv_has ls 2 [(0, .ref (ta 73)), (1, .int (i1))] := hl
  refine lv_aload_n E.1 E.2.1 dX5_nodes_0 rfl (lv_at hl 0 rfl) ?_
  refine tw_get E hK hT 3 (Nat.le_of_ble_eq_true rfl) q1813 rfl (v := .ref (ta 3)) rfl dX5_nodes_1 ?_
  refine lv_bipush (v := nI 7) E.1 E.2.1 dX5_nodes_4 rfl ?_
  refine lv_iload_n E.1 E.2.1 dX5_nodes_6 rfl (lv_at hl 1 rfl) ?_
  refine lv_imul E.1 E.2.1 dX5_nodes_7 ?_
  refine lv_iconst (v := nI 4) E.1 E.2.1 dX5_nodes_8 rfl ?_
  refine lv_iadd E.1 E.2.1 dX5_nodes_9 ?_
  obtain ⟨hin, hw⟩ := hw
  refine tw_iald E hK hT 3 rfl hin dX5_nodes_10 ?_
  exact tw_ireti E hr hlocks hT hS hw dX5_nodes_11
/-- laysLeaves()V -/
def wp_laysLeaves (post : TS → Prop) (z0 : TS) : Prop := ∀ z1, z1 = ux z0 66 (nI 0) → ∃ I2 : Nat → TS → Int32 → Prop, (∃ n8, I2 n8 z1 (nI 0)) ∧ ∀ (n3 : Nat) (z4 : TS) (x7 : Int32), I2 n3 z4 x7 → wp_chapters (fun r10 z9 => (r10 ≤ x7 → ∃ I12 : Nat → TS → Int32 → Prop, (∃ n18, I12 n18 z9 (nI 0)) ∧ ∀ (n13 : Nat) (z14 : TS) (x17 : Int32), I12 n13 z14 x17 → ((nI 40) ≤ x17 → ∃ I20 : Nat → TS → Int32 → Prop, (∃ n26, I20 n26 z14 (nI 0)) ∧ ∀ (n21 : Nat) (z22 : TS) (x25 : Int32), I20 n21 z22 x25 → wp_nodes (fun r28 z27 => (r28 ≤ x25 → ∃ I30 : Nat → TS → Int32 → Prop, (∃ n36, I30 n36 z27 (nI 0)) ∧ ∀ (n31 : Nat) (z32 : TS) (x35 : Int32), I30 n31 z32 x35 → wp_chapters (fun r38 z37 => (r38 ≤ x35 → post z37) ∧ (¬ r38 ≤ x35 → wp_laysReached (fun z40 => ∃ n41, n41 < n31 ∧ I30 n41 z40 (x35 + nI 1)) z37 x35)) z32 (sx z32 29)) ∧ (¬ r28 ≤ x25 → vp_in (((nI 40) * (sx z27 29)) + x25) 120 ∧ (0 ≤ (sf z27 20 (((nI 40) * (sx z27 29)) + x25).toNatClampNeg) → ∃ n45, n45 < n21 ∧ I20 n45 z27 (x25 + nI 1)) ∧ (¬ 0 ≤ (sf z27 20 (((nI 40) * (sx z27 29)) + x25).toNatClampNeg) → vp_in (((nI 40) * (sx z27 29)) + x25) 120 ∧ vp_in (((nI 40) * (sx z27 29)) + x25) 120 ∧ wp_marks d_marks (fun z46 => ∃ n47, n47 < n21 ∧ I20 n47 z46 (x25 + nI 1)) z27 (sf z27 24 (((nI 40) * (sx z27 29)) + x25).toNatClampNeg) (sf z27 21 (((nI 40) * (sx z27 29)) + x25).toNatClampNeg)))) z22 (sx z22 29)) ∧ (¬ (nI 40) ≤ x17 → vp_in (x17) 40 ∧ ∀ z50, z50 = uf z14 68 x17.toNatClampNeg (nI 0) → ∃ n51, n51 < n13 ∧ I12 n51 z50 (x17 + nI 1))) ∧ (¬ r10 ≤ x7 → ∃ I54 : Nat → TS → Int32 → Prop, (∃ n60, I54 n60 z9 (nI 0)) ∧ ∀ (n55 : Nat) (z56 : TS) (x59 : Int32), I54 n55 z56 x59 → wp_nodes (fun r62 z61 => (r62 ≤ x59 → ∃ n64, n64 < n3 ∧ I2 n64 z61 (x7 + nI 1)) ∧ (¬ r62 ≤ x59 → vp_in (((nI 40) * (sx z61 29)) + x59) 120 ∧ ((sf z61 20 (((nI 40) * (sx z61 29)) + x59).toNatClampNeg) < 0 → ∃ n66, n66 < n55 ∧ I54 n66 z61 (x59 + nI 1)) ∧ (¬ (sf z61 20 (((nI 40) * (sx z61 29)) + x59).toNatClampNeg) < 0 → vp_in (((nI 40) * (sx z61 29)) + x59) 120 ∧ ((sf z61 24 (((nI 40) * (sx z61 29)) + x59).toNatClampNeg) = x7 → vp_in (sx z61 66) 40 ∧ ∀ z68, z68 = uf z61 67 (sx z61 66).toNatClampNeg x59 → ∀ z69, z69 = ux z68 66 ((sx z68 66) + (nI 1)) → ∃ n70, n70 < n55 ∧ I54 n70 z69 (x59 + nI 1)) ∧ (¬ (sf z61 24 (((nI 40) * (sx z61 29)) + x59).toNatClampNeg) = x7 → ∃ n71, n71 < n55 ∧ I54 n71 z61 (x59 + nI 1))))) z56 (sx z56 29))) z4 (sx z4 29)
theorem hd_laysLeaves : yX5_laysLeaves.cls = RX5 ∧ yX5_laysLeaves.cls ≠ "java/lang/invoke/MethodHandle" ∧ yX5_laysLeaves.cls ≠ "java/lang/invoke/VarHandle" ∧ (parseMethodDescriptor yX5_laysLeaves.desc).map (fun d => d.parameters.length) = some 0 := by decide +kernel
set_option maxHeartbeats 4000000 in
theorem met_laysLeaves (l : Launch) (G : GP) (ta : Nat → Nat) (d : Nat) {post : TS → Prop} {z0 : TS} (hw : wp_laysLeaves post z0) : Met l yX5_laysLeaves (ws_ yX5_laysLeaves cX5_laysLeaves 3 none) (rmd (d + 409) 0 0) (tPc G ta z0 [.ref (ta 73)]) (tQv G ta post) 0 0 (TA ta) := by
  have hD_marks : d_marks = 401 := rfl
  unfold wp_laysLeaves at hw
  refine tw_met (by decide) rfl (Nat.le_of_ble_eq_true rfl) ?_
  intro p e s m args below meth c ls E hr hlocks hK hT hS hl
  replace hl : lv_has ls 3 [(0, .ref (ta 73))] := hl
  refine lv_aload_n E.1 E.2.1 dX5_laysLeaves_0 rfl (lv_at hl 0 rfl) ?_
  refine lv_iconst (v := nI 0) E.1 E.2.1 dX5_laysLeaves_1 rfl ?_
  refine tw_puti E hK hT hS 66 (Nat.le_of_ble_eq_true rfl) q1876 rfl rfl rfl rfl dX5_laysLeaves_2 (fun H locs hT hS => ?_)
  obtain ⟨z1, ez1⟩ : ∃ y, y = ux z0 66 (nI 0) := ⟨_, rfl⟩
  rw [← ez1] at hT
  replace hw := hw z1 ez1
  refine lv_iconst (v := nI 0) E.1 E.2.1 dX5_laysLeaves_5 rfl ?_
  refine lv_istore_n (lv' := [(1, .int (nI 0)), (0, .ref (ta 73))]) E.1 E.2.1 dX5_laysLeaves_6 rfl hl (Nat.le_of_ble_eq_true rfl) rfl (fun ls hl => ?_)
  obtain ⟨I2, ⟨n8, hi75⟩, hb74⟩ := hw
  have L6 : ∀ (n3 : Nat) (z4 : TS) (x7 : Int32), I2 n3 z4 x7 → ∀ (H : Heap) (locs : List Loc) (ls : Array Slot), TW G ta z4 H → va_S (TA ta) s.heap H locs → lv_has ls 3 [(0, .ref (ta 73)), (1, .int (x7))] → W p l e (rmd (d + 409) 0 0) s m args below meth c H locs 0 0 (MQ below (tQv G ta post) args s 0 0 (TA ta)) (F0 m 7 ls []) := by
    intro n3
    induction n3 using Nat.strongRecOn with
    | _ n3 ih5 =>
      intro z4 x7 hw H locs ls hT hS hl
      replace hw := hb74 n3 z4 x7 hw
      refine lv_iload_n E.1 E.2.1 dX5_laysLeaves_7 rfl (lv_at hl 1 rfl) ?_
      refine lv_aload_n E.1 E.2.1 dX5_laysLeaves_8 rfl (lv_at hl 0 rfl) ?_
      refine lv_aload_n E.1 E.2.1 dX5_laysLeaves_9 rfl (lv_at hl 0 rfl) ?_
      refine tw_get E hK hT 29 (Nat.le_of_ble_eq_true rfl) q1839 rfl (v := .int (sx z4 29)) rfl dX5_laysLeaves_10 ?_
      refine tw_callVi E hK hT hS (As := [.int (sx z4 29)]) (rest := [.int (x7)]) (met_chapters l G ta (d + 408) hw) (cwV 1 E.2.2.2.2 (lw_V q2109 q2111 qs65 q128 q2112) rfl rfl rfl hd_chapters (rm_ok (by omega) (by decide))) rfl rfl hl.1 (Nat.le_of_ble_eq_true rfl) dX5_laysLeaves_13 (fun r10 z9 H locs hw hT hS => ?_)
      refine lv_icmp_ge (tgt := 103) E.1 E.2.1 dX5_laysLeaves_16 (by decide) (fun c11 => ?_) (fun c11 => ?_)
      · replace hw := hw.1 (c11)
        refine lv_iconst (v := nI 0) E.1 E.2.1 dX5_laysLeaves_103 rfl ?_
        refine lv_istore_n (lv' := [(1, .int (nI 0)), (0, .ref (ta 73))]) E.1 E.2.1 dX5_laysLeaves_104 rfl hl (Nat.le_of_ble_eq_true rfl) rfl (fun ls hl => ?_)
        obtain ⟨I12, ⟨n18, hi53⟩, hb52⟩ := hw
        have L16 : ∀ (n13 : Nat) (z14 : TS) (x17 : Int32), I12 n13 z14 x17 → ∀ (H : Heap) (locs : List Loc) (ls : Array Slot), TW G ta z14 H → va_S (TA ta) s.heap H locs → lv_has ls 3 [(0, .ref (ta 73)), (1, .int (x17))] → W p l e (rmd (d + 409) 0 0) s m args below meth c H locs 0 0 (MQ below (tQv G ta post) args s 0 0 (TA ta)) (F0 m 105 ls []) := by
          intro n13
          induction n13 using Nat.strongRecOn with
          | _ n13 ih15 =>
            intro z14 x17 hw H locs ls hT hS hl
            replace hw := hb52 n13 z14 x17 hw
            refine lv_iload_n E.1 E.2.1 dX5_laysLeaves_105 rfl (lv_at hl 1 rfl) ?_
            refine lv_bipush (v := nI 40) E.1 E.2.1 dX5_laysLeaves_106 rfl ?_
            refine lv_icmp_ge (tgt := 124) E.1 E.2.1 dX5_laysLeaves_108 (by decide) (fun c19 => ?_) (fun c19 => ?_)
            · replace hw := hw.1 (c19)
              refine lv_iconst (v := nI 0) E.1 E.2.1 dX5_laysLeaves_124 rfl ?_
              refine lv_istore_n (lv' := [(1, .int (nI 0)), (0, .ref (ta 73))]) E.1 E.2.1 dX5_laysLeaves_125 rfl hl (Nat.le_of_ble_eq_true rfl) rfl (fun ls hl => ?_)
              obtain ⟨I20, ⟨n26, hi49⟩, hb48⟩ := hw
              have L24 : ∀ (n21 : Nat) (z22 : TS) (x25 : Int32), I20 n21 z22 x25 → ∀ (H : Heap) (locs : List Loc) (ls : Array Slot), TW G ta z22 H → va_S (TA ta) s.heap H locs → lv_has ls 3 [(0, .ref (ta 73)), (1, .int (x25))] → W p l e (rmd (d + 409) 0 0) s m args below meth c H locs 0 0 (MQ below (tQv G ta post) args s 0 0 (TA ta)) (F0 m 126 ls []) := by
                intro n21
                induction n21 using Nat.strongRecOn with
                | _ n21 ih23 =>
                  intro z22 x25 hw H locs ls hT hS hl
                  replace hw := hb48 n21 z22 x25 hw
                  refine lv_iload_n E.1 E.2.1 dX5_laysLeaves_126 rfl (lv_at hl 1 rfl) ?_
                  refine lv_aload_n E.1 E.2.1 dX5_laysLeaves_127 rfl (lv_at hl 0 rfl) ?_
                  refine lv_aload_n E.1 E.2.1 dX5_laysLeaves_128 rfl (lv_at hl 0 rfl) ?_
                  refine tw_get E hK hT 29 (Nat.le_of_ble_eq_true rfl) q1839 rfl (v := .int (sx z22 29)) rfl dX5_laysLeaves_129 ?_
                  refine tw_callVi E hK hT hS (As := [.int (sx z22 29)]) (rest := [.int (x25)]) (met_nodes l G ta (d + 408) hw) (cwV 1 E.2.2.2.2 (lw_V q2211 q2213 qs85 q128 q2214) rfl rfl rfl hd_nodes (rm_ok (by omega) (by decide))) rfl rfl hl.1 (Nat.le_of_ble_eq_true rfl) dX5_laysLeaves_132 (fun r28 z27 H locs hw hT hS => ?_)
                  refine lv_icmp_ge (tgt := 193) E.1 E.2.1 dX5_laysLeaves_135 (by decide) (fun c29 => ?_) (fun c29 => ?_)
                  · replace hw := hw.1 (c29)
                    refine lv_iconst (v := nI 0) E.1 E.2.1 dX5_laysLeaves_193 rfl ?_
                    refine lv_istore_n (lv' := [(1, .int (nI 0)), (0, .ref (ta 73))]) E.1 E.2.1 dX5_laysLeaves_194 rfl hl (Nat.le_of_ble_eq_true rfl) rfl (fun ls hl => ?_)
                    obtain ⟨I30, ⟨n36, hi43⟩, hb42⟩ := hw
                    have L34 : ∀ (n31 : Nat) (z32 : TS) (x35 : Int32), I30 n31 z32 x35 → ∀ (H : Heap) (locs : List Loc) (ls : Array Slot), TW G ta z32 H → va_S (TA ta) s.heap H locs → lv_has ls 3 [(0, .ref (ta 73)), (1, .int (x35))] → W p l e (rmd (d + 409) 0 0) s m args below meth c H locs 0 0 (MQ below (tQv G ta post) args s 0 0 (TA ta)) (F0 m 195 ls []) := by
                      intro n31
                      induction n31 using Nat.strongRecOn with
                      | _ n31 ih33 =>
                        intro z32 x35 hw H locs ls hT hS hl
                        replace hw := hb42 n31 z32 x35 hw
                        refine lv_iload_n E.1 E.2.1 dX5_laysLeaves_195 rfl (lv_at hl 1 rfl) ?_
                        refine lv_aload_n E.1 E.2.1 dX5_laysLeaves_196 rfl (lv_at hl 0 rfl) ?_
                        refine lv_aload_n E.1 E.2.1 dX5_laysLeaves_197 rfl (lv_at hl 0 rfl) ?_
                        refine tw_get E hK hT 29 (Nat.le_of_ble_eq_true rfl) q1839 rfl (v := .int (sx z32 29)) rfl dX5_laysLeaves_198 ?_
                        refine tw_callVi E hK hT hS (As := [.int (sx z32 29)]) (rest := [.int (x35)]) (met_chapters l G ta (d + 408) hw) (cwV 1 E.2.2.2.2 (lw_V q2109 q2111 qs65 q128 q2112) rfl rfl rfl hd_chapters (rm_ok (by omega) (by decide))) rfl rfl hl.1 (Nat.le_of_ble_eq_true rfl) dX5_laysLeaves_201 (fun r38 z37 H locs hw hT hS => ?_)
                        refine lv_icmp_ge (tgt := 218) E.1 E.2.1 dX5_laysLeaves_204 (by decide) (fun c39 => ?_) (fun c39 => ?_)
                        · replace hw := hw.1 (c39)
                          exact tw_vret E hr hlocks hT hS hw dX5_laysLeaves_218
                        · replace hw := hw.2 (c39)
                          refine lv_aload_n E.1 E.2.1 dX5_laysLeaves_207 rfl (lv_at hl 0 rfl) ?_
                          refine lv_iload_n E.1 E.2.1 dX5_laysLeaves_208 rfl (lv_at hl 1 rfl) ?_
                          refine tw_callVv E hK hT hS (As := [.int (x35)]) (rest := []) (met_laysReached l G ta (d) hw) (cwV 1 E.2.2.2.2 (lw_V q2259 q2261 qs97 q128 q2262) rfl rfl rfl hd_laysReached (rm_ok (by omega) (by decide))) rfl rfl hl.1 (Nat.le_of_ble_eq_true rfl) dX5_laysLeaves_209 (fun z40 H locs hw hT hS => ?_)
                          refine lv_iinc (k := 1) (v := x35 + nI 1) (lv' := [(1, .int (x35 + nI 1)), (0, .ref (ta 73))]) E.1 E.2.1 dX5_laysLeaves_212 hl rfl rfl (Nat.le_of_ble_eq_true rfl) rfl (fun ls hl => ?_)
                          refine lv_goto (tgt := 195) E.1 E.2.1 dX5_laysLeaves_215 (by decide) ?_
                          obtain ⟨n41, hnn41, hin41⟩ := hw
                          exact ih33 n41 hnn41 _ _ hin41 _ _ _ hT hS (lv_sub hl [1, 0] rfl)
                    exact L34 n36 _ _ hi43 _ _ _ hT hS (lv_sub hl [1, 0] rfl)
                  · replace hw := hw.2 (c29)
                    refine lv_aload_n E.1 E.2.1 dX5_laysLeaves_138 rfl (lv_at hl 0 rfl) ?_
                    refine tw_get E hK hT 20 (Nat.le_of_ble_eq_true rfl) q1830 rfl (v := .ref (ta 20)) rfl dX5_laysLeaves_139 ?_
                    refine lv_bipush (v := nI 40) E.1 E.2.1 dX5_laysLeaves_142 rfl ?_
                    refine lv_aload_n E.1 E.2.1 dX5_laysLeaves_144 rfl (lv_at hl 0 rfl) ?_
                    refine tw_get E hK hT 29 (Nat.le_of_ble_eq_true rfl) q1839 rfl (v := .int (sx z27 29)) rfl dX5_laysLeaves_145 ?_
                    refine lv_imul E.1 E.2.1 dX5_laysLeaves_148 ?_
                    refine lv_iload_n E.1 E.2.1 dX5_laysLeaves_149 rfl (lv_at hl 1 rfl) ?_
                    refine lv_iadd E.1 E.2.1 dX5_laysLeaves_150 ?_
                    obtain ⟨hin, hw⟩ := hw
                    refine tw_iald E hK hT 20 rfl hin dX5_laysLeaves_151 ?_
                    refine lv_if_ge (tgt := 187) E.1 E.2.1 dX5_laysLeaves_152 (by decide) (fun c44 => ?_) (fun c44 => ?_)
                    · replace hw := hw.1 (c44)
                      refine lv_iinc (k := 1) (v := x25 + nI 1) (lv' := [(1, .int (x25 + nI 1)), (0, .ref (ta 73))]) E.1 E.2.1 dX5_laysLeaves_187 hl rfl rfl (Nat.le_of_ble_eq_true rfl) rfl (fun ls hl => ?_)
                      refine lv_goto (tgt := 126) E.1 E.2.1 dX5_laysLeaves_190 (by decide) ?_
                      obtain ⟨n45, hnn45, hin45⟩ := hw
                      exact ih23 n45 hnn45 _ _ hin45 _ _ _ hT hS (lv_sub hl [1, 0] rfl)
                    · replace hw := hw.2 (c44)
                      refine lv_aload_n E.1 E.2.1 dX5_laysLeaves_155 rfl (lv_at hl 0 rfl) ?_
                      refine lv_aload_n E.1 E.2.1 dX5_laysLeaves_156 rfl (lv_at hl 0 rfl) ?_
                      refine tw_get E hK hT 24 (Nat.le_of_ble_eq_true rfl) q1834 rfl (v := .ref (ta 24)) rfl dX5_laysLeaves_157 ?_
                      refine lv_bipush (v := nI 40) E.1 E.2.1 dX5_laysLeaves_160 rfl ?_
                      refine lv_aload_n E.1 E.2.1 dX5_laysLeaves_162 rfl (lv_at hl 0 rfl) ?_
                      refine tw_get E hK hT 29 (Nat.le_of_ble_eq_true rfl) q1839 rfl (v := .int (sx z27 29)) rfl dX5_laysLeaves_163 ?_
                      refine lv_imul E.1 E.2.1 dX5_laysLeaves_166 ?_
                      refine lv_iload_n E.1 E.2.1 dX5_laysLeaves_167 rfl (lv_at hl 1 rfl) ?_
                      refine lv_iadd E.1 E.2.1 dX5_laysLeaves_168 ?_
                      obtain ⟨hin, hw⟩ := hw
                      refine tw_iald E hK hT 24 rfl hin dX5_laysLeaves_169 ?_
                      refine lv_aload_n E.1 E.2.1 dX5_laysLeaves_170 rfl (lv_at hl 0 rfl) ?_
                      refine tw_get E hK hT 21 (Nat.le_of_ble_eq_true rfl) q1831 rfl (v := .ref (ta 21)) rfl dX5_laysLeaves_171 ?_
                      refine lv_bipush (v := nI 40) E.1 E.2.1 dX5_laysLeaves_174 rfl ?_
                      refine lv_aload_n E.1 E.2.1 dX5_laysLeaves_176 rfl (lv_at hl 0 rfl) ?_
                      refine tw_get E hK hT 29 (Nat.le_of_ble_eq_true rfl) q1839 rfl (v := .int (sx z27 29)) rfl dX5_laysLeaves_177 ?_
                      refine lv_imul E.1 E.2.1 dX5_laysLeaves_180 ?_
                      refine lv_iload_n E.1 E.2.1 dX5_laysLeaves_181 rfl (lv_at hl 1 rfl) ?_
                      refine lv_iadd E.1 E.2.1 dX5_laysLeaves_182 ?_
                      obtain ⟨hin, hw⟩ := hw
                      refine tw_iald E hK hT 21 rfl hin dX5_laysLeaves_183 ?_
                      refine tw_callVv E hK hT hS (As := [.int (sf z27 24 (((nI 40) * (sx z27 29)) + x25).toNatClampNeg), .int (sf z27 21 (((nI 40) * (sx z27 29)) + x25).toNatClampNeg)]) (rest := []) (met_marks l G ta (d + 7) d_marks hw) (cwV 2 E.2.2.2.2 (lw_V q2255 q2257 qs96 q128 q2258) rfl rfl rfl hd_marks (rm_ok (by omega) (by decide))) rfl rfl hl.1 (Nat.le_of_ble_eq_true rfl) dX5_laysLeaves_184 (fun z46 H locs hw hT hS => ?_)
                      refine lv_iinc (k := 1) (v := x25 + nI 1) (lv' := [(1, .int (x25 + nI 1)), (0, .ref (ta 73))]) E.1 E.2.1 dX5_laysLeaves_187 hl rfl rfl (Nat.le_of_ble_eq_true rfl) rfl (fun ls hl => ?_)
                      refine lv_goto (tgt := 126) E.1 E.2.1 dX5_laysLeaves_190 (by decide) ?_
                      obtain ⟨n47, hnn47, hin47⟩ := hw
                      exact ih23 n47 hnn47 _ _ hin47 _ _ _ hT hS (lv_sub hl [1, 0] rfl)
              exact L24 n26 _ _ hi49 _ _ _ hT hS (lv_sub hl [1, 0] rfl)
            · replace hw := hw.2 (c19)
              refine lv_aload_n E.1 E.2.1 dX5_laysLeaves_111 rfl (lv_at hl 0 rfl) ?_
              refine tw_get E hK hT 68 (Nat.le_of_ble_eq_true rfl) q1878 rfl (v := .ref (ta 68)) rfl dX5_laysLeaves_112 ?_
              refine lv_iload_n E.1 E.2.1 dX5_laysLeaves_115 rfl (lv_at hl 1 rfl) ?_
              refine lv_iconst (v := nI 0) E.1 E.2.1 dX5_laysLeaves_116 rfl ?_
              obtain ⟨hin, hw⟩ := hw
              refine tw_zast E hK hT hS hin rfl dX5_laysLeaves_117 (fun H locs hT hS => ?_)
              obtain ⟨z50, ez50⟩ : ∃ y, y = uf z14 68 x17.toNatClampNeg (nI 0) := ⟨_, rfl⟩
              rw [← ez50] at hT
              replace hw := hw z50 ez50
              refine lv_iinc (k := 1) (v := x17 + nI 1) (lv' := [(1, .int (x17 + nI 1)), (0, .ref (ta 73))]) E.1 E.2.1 dX5_laysLeaves_118 hl rfl rfl (Nat.le_of_ble_eq_true rfl) rfl (fun ls hl => ?_)
              refine lv_goto (tgt := 105) E.1 E.2.1 dX5_laysLeaves_121 (by decide) ?_
              obtain ⟨n51, hnn51, hin51⟩ := hw
              exact ih15 n51 hnn51 _ _ hin51 _ _ _ hT hS (lv_sub hl [1, 0] rfl)
        exact L16 n18 _ _ hi53 _ _ _ hT hS (lv_sub hl [1, 0] rfl)
      · replace hw := hw.2 (c11)
        refine lv_iconst (v := nI 0) E.1 E.2.1 dX5_laysLeaves_19 rfl ?_
        refine lv_istore_n (lv' := [(2, .int (nI 0)), (0, .ref (ta 73)), (1, .int (x7))]) E.1 E.2.1 dX5_laysLeaves_20 rfl hl (Nat.le_of_ble_eq_true rfl) rfl (fun ls hl => ?_)
        obtain ⟨I54, ⟨n60, hi73⟩, hb72⟩ := hw
        have L58 : ∀ (n55 : Nat) (z56 : TS) (x59 : Int32), I54 n55 z56 x59 → ∀ (H : Heap) (locs : List Loc) (ls : Array Slot), TW G ta z56 H → va_S (TA ta) s.heap H locs → lv_has ls 3 [(0, .ref (ta 73)), (1, .int (x7)), (2, .int (x59))] → W p l e (rmd (d + 409) 0 0) s m args below meth c H locs 0 0 (MQ below (tQv G ta post) args s 0 0 (TA ta)) (F0 m 21 ls []) := by
          intro n55
          induction n55 using Nat.strongRecOn with
          | _ n55 ih57 =>
            intro z56 x59 hw H locs ls hT hS hl
            replace hw := hb72 n55 z56 x59 hw
            refine lv_iload_n E.1 E.2.1 dX5_laysLeaves_21 rfl (lv_at hl 2 rfl) ?_
            refine lv_aload_n E.1 E.2.1 dX5_laysLeaves_22 rfl (lv_at hl 0 rfl) ?_
            refine lv_aload_n E.1 E.2.1 dX5_laysLeaves_23 rfl (lv_at hl 0 rfl) ?_
            refine tw_get E hK hT 29 (Nat.le_of_ble_eq_true rfl) q1839 rfl (v := .int (sx z56 29)) rfl dX5_laysLeaves_24 ?_
            refine tw_callVi E hK hT hS (As := [.int (sx z56 29)]) (rest := [.int (x59)]) (met_nodes l G ta (d + 408) hw) (cwV 1 E.2.2.2.2 (lw_V q2211 q2213 qs85 q128 q2214) rfl rfl rfl hd_nodes (rm_ok (by omega) (by decide))) rfl rfl hl.1 (Nat.le_of_ble_eq_true rfl) dX5_laysLeaves_27 (fun r62 z61 H locs hw hT hS => ?_)
            refine lv_icmp_ge (tgt := 97) E.1 E.2.1 dX5_laysLeaves_30 (by decide) (fun c63 => ?_) (fun c63 => ?_)
            · replace hw := hw.1 (c63)
              refine lv_iinc (k := 1) (v := x7 + nI 1) (lv' := [(1, .int (x7 + nI 1)), (0, .ref (ta 73)), (2, .int (x59))]) E.1 E.2.1 dX5_laysLeaves_97 hl rfl rfl (Nat.le_of_ble_eq_true rfl) rfl (fun ls hl => ?_)
              refine lv_goto (tgt := 7) E.1 E.2.1 dX5_laysLeaves_100 (by decide) ?_
              obtain ⟨n64, hnn64, hin64⟩ := hw
              exact ih5 n64 hnn64 _ _ hin64 _ _ _ hT hS (lv_sub hl [1, 0] rfl)
            · replace hw := hw.2 (c63)
              refine lv_aload_n E.1 E.2.1 dX5_laysLeaves_33 rfl (lv_at hl 0 rfl) ?_
              refine tw_get E hK hT 20 (Nat.le_of_ble_eq_true rfl) q1830 rfl (v := .ref (ta 20)) rfl dX5_laysLeaves_34 ?_
              refine lv_bipush (v := nI 40) E.1 E.2.1 dX5_laysLeaves_37 rfl ?_
              refine lv_aload_n E.1 E.2.1 dX5_laysLeaves_39 rfl (lv_at hl 0 rfl) ?_
              refine tw_get E hK hT 29 (Nat.le_of_ble_eq_true rfl) q1839 rfl (v := .int (sx z61 29)) rfl dX5_laysLeaves_40 ?_
              refine lv_imul E.1 E.2.1 dX5_laysLeaves_43 ?_
              refine lv_iload_n E.1 E.2.1 dX5_laysLeaves_44 rfl (lv_at hl 2 rfl) ?_
              refine lv_iadd E.1 E.2.1 dX5_laysLeaves_45 ?_
              obtain ⟨hin, hw⟩ := hw
              refine tw_iald E hK hT 20 rfl hin dX5_laysLeaves_46 ?_
              refine lv_if_lt (tgt := 91) E.1 E.2.1 dX5_laysLeaves_47 (by decide) (fun c65 => ?_) (fun c65 => ?_)
              · replace hw := hw.1 (c65)
                refine lv_iinc (k := 2) (v := x59 + nI 1) (lv' := [(2, .int (x59 + nI 1)), (0, .ref (ta 73)), (1, .int (x7))]) E.1 E.2.1 dX5_laysLeaves_91 hl rfl rfl (Nat.le_of_ble_eq_true rfl) rfl (fun ls hl => ?_)
                refine lv_goto (tgt := 21) E.1 E.2.1 dX5_laysLeaves_94 (by decide) ?_
                obtain ⟨n66, hnn66, hin66⟩ := hw
                exact ih57 n66 hnn66 _ _ hin66 _ _ _ hT hS (lv_sub hl [1, 2, 0] rfl)
              · replace hw := hw.2 (c65)
                refine lv_aload_n E.1 E.2.1 dX5_laysLeaves_50 rfl (lv_at hl 0 rfl) ?_
                refine tw_get E hK hT 24 (Nat.le_of_ble_eq_true rfl) q1834 rfl (v := .ref (ta 24)) rfl dX5_laysLeaves_51 ?_
                refine lv_bipush (v := nI 40) E.1 E.2.1 dX5_laysLeaves_54 rfl ?_
                refine lv_aload_n E.1 E.2.1 dX5_laysLeaves_56 rfl (lv_at hl 0 rfl) ?_
                refine tw_get E hK hT 29 (Nat.le_of_ble_eq_true rfl) q1839 rfl (v := .int (sx z61 29)) rfl dX5_laysLeaves_57 ?_
                refine lv_imul E.1 E.2.1 dX5_laysLeaves_60 ?_
                refine lv_iload_n E.1 E.2.1 dX5_laysLeaves_61 rfl (lv_at hl 2 rfl) ?_
                refine lv_iadd E.1 E.2.1 dX5_laysLeaves_62 ?_
                obtain ⟨hin, hw⟩ := hw
                refine tw_iald E hK hT 24 rfl hin dX5_laysLeaves_63 ?_
                refine lv_iload_n E.1 E.2.1 dX5_laysLeaves_64 rfl (lv_at hl 1 rfl) ?_
                refine lv_icmp_eq (tgt := 71) E.1 E.2.1 dX5_laysLeaves_65 (by decide) (fun c67 => ?_) (fun c67 => ?_)
                · replace hw := hw.1 (c67)
                  refine lv_aload_n E.1 E.2.1 dX5_laysLeaves_71 rfl (lv_at hl 0 rfl) ?_
                  refine tw_get E hK hT 67 (Nat.le_of_ble_eq_true rfl) q1877 rfl (v := .ref (ta 67)) rfl dX5_laysLeaves_72 ?_
                  refine lv_aload_n E.1 E.2.1 dX5_laysLeaves_75 rfl (lv_at hl 0 rfl) ?_
                  refine tw_get E hK hT 66 (Nat.le_of_ble_eq_true rfl) q1876 rfl (v := .int (sx z61 66)) rfl dX5_laysLeaves_76 ?_
                  refine lv_iload_n E.1 E.2.1 dX5_laysLeaves_79 rfl (lv_at hl 2 rfl) ?_
                  obtain ⟨hin, hw⟩ := hw
                  refine tw_iast E hK hT hS 67 rfl hin dX5_laysLeaves_80 (fun H locs hT hS => ?_)
                  obtain ⟨z68, ez68⟩ : ∃ y, y = uf z61 67 (sx z61 66).toNatClampNeg x59 := ⟨_, rfl⟩
                  rw [← ez68] at hT
                  replace hw := hw z68 ez68
                  refine lv_aload_n E.1 E.2.1 dX5_laysLeaves_81 rfl (lv_at hl 0 rfl) ?_
                  refine lv_dup E.1 E.2.1 dX5_laysLeaves_82 rfl ?_
                  refine tw_get E hK hT 66 (Nat.le_of_ble_eq_true rfl) q1876 rfl (v := .int (sx z68 66)) rfl dX5_laysLeaves_83 ?_
                  refine lv_iconst (v := nI 1) E.1 E.2.1 dX5_laysLeaves_86 rfl ?_
                  refine lv_iadd E.1 E.2.1 dX5_laysLeaves_87 ?_
                  refine tw_puti E hK hT hS 66 (Nat.le_of_ble_eq_true rfl) q1876 rfl rfl rfl rfl dX5_laysLeaves_88 (fun H locs hT hS => ?_)
                  obtain ⟨z69, ez69⟩ : ∃ y, y = ux z68 66 ((sx z68 66) + (nI 1)) := ⟨_, rfl⟩
                  rw [← ez69] at hT
                  replace hw := hw z69 ez69
                  refine lv_iinc (k := 2) (v := x59 + nI 1) (lv' := [(2, .int (x59 + nI 1)), (0, .ref (ta 73)), (1, .int (x7))]) E.1 E.2.1 dX5_laysLeaves_91 hl rfl rfl (Nat.le_of_ble_eq_true rfl) rfl (fun ls hl => ?_)
                  refine lv_goto (tgt := 21) E.1 E.2.1 dX5_laysLeaves_94 (by decide) ?_
                  obtain ⟨n70, hnn70, hin70⟩ := hw
                  exact ih57 n70 hnn70 _ _ hin70 _ _ _ hT hS (lv_sub hl [1, 2, 0] rfl)
                · replace hw := hw.2 (c67)
                  refine lv_goto (tgt := 91) E.1 E.2.1 dX5_laysLeaves_68 (by decide) ?_
                  refine lv_iinc (k := 2) (v := x59 + nI 1) (lv' := [(2, .int (x59 + nI 1)), (0, .ref (ta 73)), (1, .int (x7))]) E.1 E.2.1 dX5_laysLeaves_91 hl rfl rfl (Nat.le_of_ble_eq_true rfl) rfl (fun ls hl => ?_)
                  refine lv_goto (tgt := 21) E.1 E.2.1 dX5_laysLeaves_94 (by decide) ?_
                  obtain ⟨n71, hnn71, hin71⟩ := hw
                  exact ih57 n71 hnn71 _ _ hin71 _ _ _ hT hS (lv_sub hl [1, 2, 0] rfl)
        exact L58 n60 _ _ hi73 _ _ _ hT hS (lv_sub hl [1, 2, 0] rfl)
  exact L6 n8 _ _ hi75 _ _ _ hT hS (lv_sub hl [1, 0] rfl)
/-- numberTold(II)I -/
def wp_numberTold (post : Int32 → TS → Prop) (z0 : TS) (i1 : Int32) (i2 : Int32) : Prop := ∃ J1 : TS → Prop, (∀ (z3 : TS), J1 z3  → ∃ J4 : TS → Prop, (∀ (z6 : TS), J4 z6  → ∀ x7, x7 = sx z6 47 → wp_next (fun z8 => post x7 z8) z6) ∧ ((¬ (sx z3 48) = 0 → J4 z3 ) ∧ ((sx z3 48) = 0 → wp_within (fun b11 z10 => (b11 = true → J4 z10 ) ∧ (b11 = false → wp_wrong (fun z13 => J4 z13 ) z10 (nI 2))) z3 (sx z3 47) i1 i2))) ∧ ((¬ (sx z0 48) = 0 → J1 z0 ) ∧ ((sx z0 48) = 0 → ((sx z0 45) = (nI 3) → J1 z0 ) ∧ (¬ (sx z0 45) = (nI 3) → wp_wrong (fun z17 => J1 z17 ) z0 (nI 1))))
theorem hd_numberTold : yX5_numberTold.cls = RX5 ∧ yX5_numberTold.cls ≠ "java/lang/invoke/MethodHandle" ∧ yX5_numberTold.cls ≠ "java/lang/invoke/VarHandle" ∧ (parseMethodDescriptor yX5_numberTold.desc).map (fun d => d.parameters.length) = some 2 := by decide +kernel
set_option maxHeartbeats 4000000 in
theorem met_numberTold (l : Launch) (G : GP) (ta : Nat → Nat) (d : Nat) {post : Int32 → TS → Prop} {z0 : TS} {i1 : Int32} {i2 : Int32} (hw : wp_numberTold post z0 i1 i2) : Met l yX5_numberTold (ws_ yX5_numberTold cX5_numberTold 4 (some .int)) (rmd (d + 4) 0 0) (tPc G ta z0 [.ref (ta 73), .int (i1), .int (i2)]) (tQi G ta post) 0 0 (TA ta) := by
  unfold wp_numberTold at hw
  refine tw_met (by decide) rfl (Nat.le_of_ble_eq_true rfl) ?_
  intro p e s m args below meth c ls E hr hlocks hK hT hS hl
  replace hl : lv_has ls 4 [(0, .ref (ta 73)), (1, .int (i1)), (2, .int (i2))] := hl
  obtain ⟨J1, hj18, hw⟩ := hw
  have jh2 : ∀ (z3 : TS), J1 z3  → ∀ (H : Heap) (locs : List Loc) (ls : Array Slot), TW G ta z3 H → va_S (TA ta) s.heap H locs → lv_has ls 4 [(0, .ref (ta 73)), (1, .int (i1)), (2, .int (i2))] → W p l e (rmd (d + 4) 0 0) s m args below meth c H locs 0 0 (MQ below (tQi G ta post) args s 0 0 (TA ta)) (F0 m 20 ls []) := by
    intro z3 hw H locs ls hT hS hl
    replace hw := hj18 z3 hw
    obtain ⟨J4, hj14, hw⟩ := hw
    have jh5 : ∀ (z6 : TS), J4 z6  → ∀ (H : Heap) (locs : List Loc) (ls : Array Slot), TW G ta z6 H → va_S (TA ta) s.heap H locs → lv_has ls 4 [(0, .ref (ta 73))] → W p l e (rmd (d + 4) 0 0) s m args below meth c H locs 0 0 (MQ below (tQi G ta post) args s 0 0 (TA ta)) (F0 m 44 ls []) := by
      intro z6 hw H locs ls hT hS hl
      replace hw := hj14 z6 hw
      refine lv_aload_n E.1 E.2.1 dX5_numberTold_44 rfl (lv_at hl 0 rfl) ?_
      refine tw_get E hK hT 47 (Nat.le_of_ble_eq_true rfl) q1857 rfl (v := .int (sx z6 47)) rfl dX5_numberTold_45 ?_
      refine lv_topi (fun x7 ex7 => ?_)
      replace hw := hw x7 ex7
      refine lv_istore_n (lv' := [(3, .int (x7)), (0, .ref (ta 73))]) E.1 E.2.1 dX5_numberTold_48 rfl hl (Nat.le_of_ble_eq_true rfl) rfl (fun ls hl => ?_)
      refine lv_aload_n E.1 E.2.1 dX5_numberTold_49 rfl (lv_at hl 1 rfl) ?_
      refine tw_callVv E hK hT hS (As := []) (rest := []) (met_next l G ta (d) hw) (cwV 0 E.2.2.2.2 (lw_V q2055 q2057 qs59 q128 q2058) rfl rfl rfl hd_next (rm_ok (by omega) (by decide))) rfl rfl hl.1 (Nat.le_of_ble_eq_true rfl) dX5_numberTold_50 (fun z8 H locs hw hT hS => ?_)
      refine lv_iload_n E.1 E.2.1 dX5_numberTold_53 rfl (lv_at hl 0 rfl) ?_
      exact tw_ireti E hr hlocks hT hS hw dX5_numberTold_54
    refine lv_aload_n E.1 E.2.1 dX5_numberTold_20 rfl (lv_at hl 0 rfl) ?_
    refine tw_get E hK hT 48 (Nat.le_of_ble_eq_true rfl) q1858 rfl (v := .int (sx z3 48)) rfl dX5_numberTold_21 ?_
    refine lv_if_ne (tgt := 44) E.1 E.2.1 dX5_numberTold_24 (by decide) (fun c9 => ?_) (fun c9 => ?_)
    · replace hw := hw.1 (c9)
      exact jh5 _ hw _ _ _ hT hS (lv_sub hl [0] rfl)
    · replace hw := hw.2 (c9)
      refine lv_aload_n E.1 E.2.1 dX5_numberTold_27 rfl (lv_at hl 0 rfl) ?_
      refine tw_get E hK hT 47 (Nat.le_of_ble_eq_true rfl) q1857 rfl (v := .int (sx z3 47)) rfl dX5_numberTold_28 ?_
      refine lv_iload_n E.1 E.2.1 dX5_numberTold_31 rfl (lv_at hl 1 rfl) ?_
      refine lv_iload_n E.1 E.2.1 dX5_numberTold_32 rfl (lv_at hl 2 rfl) ?_
      refine tw_callSz E hK hT hS (As := [.int (sx z3 47), .int (i1), .int (i2)]) (rest := []) (met_within l G ta (d + 3) hw) (va_cwS 3 E.2.2.2.2 (lw_S q2048 q2049 q128 q2050) rfl rfl rfl hs_within (rm_ok (by omega) (by decide))) rfl rfl hl.1 (Nat.le_of_ble_eq_true rfl) dX5_numberTold_33 (fun b11 z10 H locs hw hT hS => ?_)
      refine lv_if_ne (tgt := 44) E.1 E.2.1 dX5_numberTold_36 (by decide) (fun c12 => ?_) (fun c12 => ?_)
      · replace hw := hw.1 (bi_n c12)
        exact jh5 _ hw _ _ _ hT hS (lv_sub hl [0] rfl)
      · replace hw := hw.2 (bi_z c12)
        refine lv_aload_n E.1 E.2.1 dX5_numberTold_39 rfl (lv_at hl 0 rfl) ?_
        refine lv_iconst (v := nI 2) E.1 E.2.1 dX5_numberTold_40 rfl ?_
        refine tw_callVv E hK hT hS (As := [.int (nI 2)]) (rest := []) (met_wrong l G ta (d + 2) hw) (cwV 1 E.2.2.2.2 (lw_V q2113 q2115 qs66 q128 q2116) rfl rfl rfl hd_wrong (rm_ok (by omega) (by decide))) rfl rfl hl.1 (Nat.le_of_ble_eq_true rfl) dX5_numberTold_41 (fun z13 H locs hw hT hS => ?_)
        exact jh5 _ hw _ _ _ hT hS (lv_sub hl [0] rfl)
  refine lv_aload_n E.1 E.2.1 dX5_numberTold_0 rfl (lv_at hl 0 rfl) ?_
  refine tw_get E hK hT 48 (Nat.le_of_ble_eq_true rfl) q1858 rfl (v := .int (sx z0 48)) rfl dX5_numberTold_1 ?_
  refine lv_if_ne (tgt := 20) E.1 E.2.1 dX5_numberTold_4 (by decide) (fun c15 => ?_) (fun c15 => ?_)
  · replace hw := hw.1 (c15)
    exact jh2 _ hw _ _ _ hT hS (lv_sub hl [0, 1, 2] rfl)
  · replace hw := hw.2 (c15)
    refine lv_aload_n E.1 E.2.1 dX5_numberTold_7 rfl (lv_at hl 0 rfl) ?_
    refine tw_get E hK hT 45 (Nat.le_of_ble_eq_true rfl) q1855 rfl (v := .int (sx z0 45)) rfl dX5_numberTold_8 ?_
    refine lv_iconst (v := nI 3) E.1 E.2.1 dX5_numberTold_11 rfl ?_
    refine lv_icmp_eq (tgt := 20) E.1 E.2.1 dX5_numberTold_12 (by decide) (fun c16 => ?_) (fun c16 => ?_)
    · replace hw := hw.1 (c16)
      exact jh2 _ hw _ _ _ hT hS (lv_sub hl [0, 1, 2] rfl)
    · replace hw := hw.2 (c16)
      refine lv_aload_n E.1 E.2.1 dX5_numberTold_15 rfl (lv_at hl 0 rfl) ?_
      refine lv_iconst (v := nI 1) E.1 E.2.1 dX5_numberTold_16 rfl ?_
      refine tw_callVv E hK hT hS (As := [.int (nI 1)]) (rest := []) (met_wrong l G ta (d + 2) hw) (cwV 1 E.2.2.2.2 (lw_V q2113 q2115 qs66 q128 q2116) rfl rfl rfl hd_wrong (rm_ok (by omega) (by decide))) rfl rfl hl.1 (Nat.le_of_ble_eq_true rfl) dX5_numberTold_17 (fun z17 H locs hw hT hS => ?_)
      exact jh2 _ hw _ _ _ hT hS (lv_sub hl [0, 1, 2] rfl)
/-- partners(I)I -/
def wp_partners (post : Int32 → TS → Prop) (z0 : TS) (i1 : Int32) : Prop := vp_in (((nI 7) * i1) + (nI 2)) 21 ∧ post (sf z0 3 (((nI 7) * i1) + (nI 2)).toNatClampNeg) z0
theorem hd_partners : yX5_partners.cls = RX5 ∧ yX5_partners.cls ≠ "java/lang/invoke/MethodHandle" ∧ yX5_partners.cls ≠ "java/lang/invoke/VarHandle" ∧ (parseMethodDescriptor yX5_partners.desc).map (fun d => d.parameters.length) = some 1 := by decide +kernel
set_option maxHeartbeats 4000000 in
theorem met_partners (l : Launch) (G : GP) (ta : Nat → Nat) (d : Nat) {post : Int32 → TS → Prop} {z0 : TS} {i1 : Int32} (hw : wp_partners post z0 i1) : Met l yX5_partners (ws_ yX5_partners cX5_partners 2 (some .int)) (rmd (d + 0) 0 0) (tPc G ta z0 [.ref (ta 73), .int (i1)]) (tQi G ta post) 0 0 (TA ta) := by
  unfold wp_partners at hw
  refine tw_met (by decide) rfl (Nat.le_of_ble_eq_true rfl) ?_
  intro p e s m args below meth c ls E hr hlocks hK hT hS hl
  replace hl : lv_has ls 2 [(0, .ref (ta 73)), (1, .int (i1))] := hl
  refine lv_aload_n E.1 E.2.1 dX5_partners_0 rfl (lv_at hl 0 rfl) ?_
  refine tw_get E hK hT 3 (Nat.le_of_ble_eq_true rfl) q1813 rfl (v := .ref (ta 3)) rfl dX5_partners_1 ?_
  refine lv_bipush (v := nI 7) E.1 E.2.1 dX5_partners_4 rfl ?_
  refine lv_iload_n E.1 E.2.1 dX5_partners_6 rfl (lv_at hl 1 rfl) ?_
  refine lv_imul E.1 E.2.1 dX5_partners_7 ?_
  refine lv_iconst (v := nI 2) E.1 E.2.1 dX5_partners_8 rfl ?_
  refine lv_iadd E.1 E.2.1 dX5_partners_9 ?_
  obtain ⟨hin, hw⟩ := hw
  refine tw_iald E hK hT 3 rfl hin dX5_partners_10 ?_
  exact tw_ireti E hr hlocks hT hS hw dX5_partners_11
/-- partnerLine()V -/
def wp_partnerLine (post : TS → Prop) (z0 : TS) : Prop := ∃ J1 : TS → Int32 → Prop, (∀ (z3 : TS) (x4 : Int32), J1 z3 x4 → ∃ J5 : TS → Int32 → Int32 → Int32 → Int32 → Int32 → Prop, (∀ (z7 : TS) (x8 : Int32) (x9 : Int32) (x10 : Int32) (x11 : Int32) (x12 : Int32), J5 z7 x8 x9 x10 x11 x12 → wp_lineEnds (fun z13 => ((sx z13 48) ≤ 0 → vp_in (x8) 30 ∧ ∀ z15, z15 = uf z13 12 x8.toNatClampNeg x9 → vp_in (x8) 30 ∧ ∀ z16, z16 = uf z15 13 x8.toNatClampNeg x10 → vp_in (x8) 30 ∧ ∀ z17, z17 = uf z16 14 x8.toNatClampNeg x11 → vp_in (x8) 30 ∧ ∀ z18, z18 = uf z17 15 x8.toNatClampNeg x12 → vp_in (((nI 7) * (sx z18 31)) + (nI 2)) 21 ∧ vp_in (((nI 7) * (sx z18 31)) + (nI 2)) 21 ∧ ∀ z19, z19 = uf z18 3 (((nI 7) * (sx z18 31)) + (nI 2)).toNatClampNeg ((sf z18 3 (((nI 7) * (sx z18 31)) + (nI 2)).toNatClampNeg) + (nI 1)) → post z19) ∧ (¬ (sx z13 48) ≤ 0 → post z13)) z7) ∧ (wp_next (fun z20 => wp_span (fun z21 => ∀ x22, x22 = ((nI 10) * (sx z21 31)) + x4 → ∀ x23, x23 = sx z21 49 → ∀ x24, x24 = sx z21 50 → wp_numberTold (fun r26 z25 => wp_isWord (fun b28 z27 => (b28 = false → J5 z27 x22 x23 x24 r26 (nI 0)) ∧ (b28 = true → ∃ I30 : Nat → TS → Int32 → Prop, (∃ n36, I30 n36 z27 (nI 0)) ∧ ∀ (n31 : Nat) (z32 : TS) (x35 : Int32), I30 n31 z32 x35 → ∃ J37 : TS → Bool → Prop, (∀ (z39 : TS) (b40 : Bool), J37 z39 b40 → wp_span (fun z41 => ((sx z41 48) ≤ 0 → vp_in (((nI 3) * x22) + x35) 90 ∧ ∀ z43, z43 = uf z41 16 (((nI 3) * x22) + x35).toNatClampNeg (sx z41 49) → vp_in (((nI 3) * x22) + x35) 90 ∧ ∀ z44, z44 = uf z43 17 (((nI 3) * x22) + x35).toNatClampNeg (sx z43 50) → wp_isSign (fun b46 z45 => (b46 = true → ∃ n48, n48 < n31 ∧ I30 n48 z45 (x35 + nI 1)) ∧ (b46 = false → J5 z45 x22 x23 x24 r26 (x35 + nI 1))) z44 (nI 44)) ∧ (¬ (sx z41 48) ≤ 0 → post z41)) z39 false b40) ∧ (wp_next (fun z49 => (¬ x35 = (nI 3) → J37 z49 false) ∧ (x35 = (nI 3) → J37 z49 true)) z32))) z25 2) z21 (nI 1) (nI 3)) z20 false false) z3)) ∧ (wp_partners (fun r56 z55 => (¬ r56 = (nI 10) → J1 z55 r56) ∧ (r56 = (nI 10) → wp_wrong (fun z58 => J1 z58 r56) z55 (nI 4))) z0 (sx z0 31))
theorem hd_partnerLine : yX5_partnerLine.cls = RX5 ∧ yX5_partnerLine.cls ≠ "java/lang/invoke/MethodHandle" ∧ yX5_partnerLine.cls ≠ "java/lang/invoke/VarHandle" ∧ (parseMethodDescriptor yX5_partnerLine.desc).map (fun d => d.parameters.length) = some 0 := by decide +kernel
set_option maxHeartbeats 4000000 in
theorem met_partnerLine (l : Launch) (G : GP) (ta : Nat → Nat) (d : Nat) {post : TS → Prop} {z0 : TS} (hw : wp_partnerLine post z0) : Met l yX5_partnerLine (ws_ yX5_partnerLine cX5_partnerLine 7 none) (rmd (d + 9) 0 0) (tPc G ta z0 [.ref (ta 73)]) (tQv G ta post) 0 0 (TA ta) := by
  unfold wp_partnerLine at hw
  refine tw_met (by decide) rfl (Nat.le_of_ble_eq_true rfl) ?_
  intro p e s m args below meth c ls E hr hlocks hK hT hS hl
  replace hl : lv_has ls 7 [(0, .ref (ta 73))] := hl
  obtain ⟨J1, hj59, hw⟩ := hw
  have jh2 : ∀ (z3 : TS) (x4 : Int32), J1 z3 x4 → ∀ (H : Heap) (locs : List Loc) (ls : Array Slot), TW G ta z3 H → va_S (TA ta) s.heap H locs → lv_has ls 7 [(0, .ref (ta 73)), (1, .int (x4))] → W p l e (rmd (d + 9) 0 0) s m args below meth c H locs 0 0 (MQ below (tQv G ta post) args s 0 0 (TA ta)) (F0 m 20 ls []) := by
    intro z3 x4 hw H locs ls hT hS hl
    replace hw := hj59 z3 x4 hw
    obtain ⟨J5, hj54, hw⟩ := hw
    have jh6 : ∀ (z7 : TS) (x8 : Int32) (x9 : Int32) (x10 : Int32) (x11 : Int32) (x12 : Int32), J5 z7 x8 x9 x10 x11 x12 → ∀ (H : Heap) (locs : List Loc) (ls : Array Slot), TW G ta z7 H → va_S (TA ta) s.heap H locs → lv_has ls 7 [(0, .ref (ta 73)), (2, .int (x8)), (3, .int (x9)), (4, .int (x10)), (5, .int (x11)), (6, .int (x12))] → W p l e (rmd (d + 9) 0 0) s m args below meth c H locs 0 0 (MQ below (tQv G ta post) args s 0 0 (TA ta)) (F0 m 142 ls []) := by
      intro z7 x8 x9 x10 x11 x12 hw H locs ls hT hS hl
      replace hw := hj54 z7 x8 x9 x10 x11 x12 hw
      refine lv_aload_n E.1 E.2.1 dX5_partnerLine_142 rfl (lv_at hl 0 rfl) ?_
      refine tw_callVv E hK hT hS (As := []) (rest := []) (met_lineEnds l G ta (d + 6) hw) (cwV 0 E.2.2.2.2 (lw_V q2163 q2165 qs73 q128 q2166) rfl rfl rfl hd_lineEnds (rm_ok (by omega) (by decide))) rfl rfl hl.1 (Nat.le_of_ble_eq_true rfl) dX5_partnerLine_143 (fun z13 H locs hw hT hS => ?_)
      refine lv_aload_n E.1 E.2.1 dX5_partnerLine_146 rfl (lv_at hl 0 rfl) ?_
      refine tw_get E hK hT 48 (Nat.le_of_ble_eq_true rfl) q1858 rfl (v := .int (sx z13 48)) rfl dX5_partnerLine_147 ?_
      refine lv_if_le (tgt := 154) E.1 E.2.1 dX5_partnerLine_150 (by decide) (fun c14 => ?_) (fun c14 => ?_)
      · replace hw := hw.1 (c14)
        refine lv_aload_n E.1 E.2.1 dX5_partnerLine_154 rfl (lv_at hl 0 rfl) ?_
        refine tw_get E hK hT 12 (Nat.le_of_ble_eq_true rfl) q1822 rfl (v := .ref (ta 12)) rfl dX5_partnerLine_155 ?_
        refine lv_iload_n E.1 E.2.1 dX5_partnerLine_158 rfl (lv_at hl 1 rfl) ?_
        refine lv_iload_n E.1 E.2.1 dX5_partnerLine_159 rfl (lv_at hl 2 rfl) ?_
        obtain ⟨hin, hw⟩ := hw
        refine tw_iast E hK hT hS 12 rfl hin dX5_partnerLine_160 (fun H locs hT hS => ?_)
        obtain ⟨z15, ez15⟩ : ∃ y, y = uf z13 12 x8.toNatClampNeg x9 := ⟨_, rfl⟩
        rw [← ez15] at hT
        replace hw := hw z15 ez15
        refine lv_aload_n E.1 E.2.1 dX5_partnerLine_161 rfl (lv_at hl 0 rfl) ?_
        refine tw_get E hK hT 13 (Nat.le_of_ble_eq_true rfl) q1823 rfl (v := .ref (ta 13)) rfl dX5_partnerLine_162 ?_
        refine lv_iload_n E.1 E.2.1 dX5_partnerLine_165 rfl (lv_at hl 1 rfl) ?_
        refine lv_iload E.1 E.2.1 dX5_partnerLine_166 (lv_at hl 3 rfl) ?_
        obtain ⟨hin, hw⟩ := hw
        refine tw_iast E hK hT hS 13 rfl hin dX5_partnerLine_168 (fun H locs hT hS => ?_)
        obtain ⟨z16, ez16⟩ : ∃ y, y = uf z15 13 x8.toNatClampNeg x10 := ⟨_, rfl⟩
        rw [← ez16] at hT
        replace hw := hw z16 ez16
        refine lv_aload_n E.1 E.2.1 dX5_partnerLine_169 rfl (lv_at hl 0 rfl) ?_
        refine tw_get E hK hT 14 (Nat.le_of_ble_eq_true rfl) q1824 rfl (v := .ref (ta 14)) rfl dX5_partnerLine_170 ?_
        refine lv_iload_n E.1 E.2.1 dX5_partnerLine_173 rfl (lv_at hl 1 rfl) ?_
        refine lv_iload E.1 E.2.1 dX5_partnerLine_174 (lv_at hl 4 rfl) ?_
        obtain ⟨hin, hw⟩ := hw
        refine tw_iast E hK hT hS 14 rfl hin dX5_partnerLine_176 (fun H locs hT hS => ?_)
        obtain ⟨z17, ez17⟩ : ∃ y, y = uf z16 14 x8.toNatClampNeg x11 := ⟨_, rfl⟩
        rw [← ez17] at hT
        replace hw := hw z17 ez17
        refine lv_aload_n E.1 E.2.1 dX5_partnerLine_177 rfl (lv_at hl 0 rfl) ?_
        refine tw_get E hK hT 15 (Nat.le_of_ble_eq_true rfl) q1825 rfl (v := .ref (ta 15)) rfl dX5_partnerLine_178 ?_
        refine lv_iload_n E.1 E.2.1 dX5_partnerLine_181 rfl (lv_at hl 1 rfl) ?_
        refine lv_iload E.1 E.2.1 dX5_partnerLine_182 (lv_at hl 5 rfl) ?_
        obtain ⟨hin, hw⟩ := hw
        refine tw_iast E hK hT hS 15 rfl hin dX5_partnerLine_184 (fun H locs hT hS => ?_)
        obtain ⟨z18, ez18⟩ : ∃ y, y = uf z17 15 x8.toNatClampNeg x12 := ⟨_, rfl⟩
        rw [← ez18] at hT
        replace hw := hw z18 ez18
        refine lv_aload_n E.1 E.2.1 dX5_partnerLine_185 rfl (lv_at hl 0 rfl) ?_
        refine tw_get E hK hT 3 (Nat.le_of_ble_eq_true rfl) q1813 rfl (v := .ref (ta 3)) rfl dX5_partnerLine_186 ?_
        refine lv_bipush (v := nI 7) E.1 E.2.1 dX5_partnerLine_189 rfl ?_
        refine lv_aload_n E.1 E.2.1 dX5_partnerLine_191 rfl (lv_at hl 0 rfl) ?_
        refine tw_get E hK hT 31 (Nat.le_of_ble_eq_true rfl) q1841 rfl (v := .int (sx z18 31)) rfl dX5_partnerLine_192 ?_
        refine lv_imul E.1 E.2.1 dX5_partnerLine_195 ?_
        refine lv_iconst (v := nI 2) E.1 E.2.1 dX5_partnerLine_196 rfl ?_
        refine lv_iadd E.1 E.2.1 dX5_partnerLine_197 ?_
        refine lv_dup2_11 E.1 E.2.1 dX5_partnerLine_198 rfl rfl ?_
        obtain ⟨hin, hw⟩ := hw
        refine tw_iald E hK hT 3 rfl hin dX5_partnerLine_199 ?_
        refine lv_iconst (v := nI 1) E.1 E.2.1 dX5_partnerLine_200 rfl ?_
        refine lv_iadd E.1 E.2.1 dX5_partnerLine_201 ?_
        obtain ⟨hin, hw⟩ := hw
        refine tw_iast E hK hT hS 3 rfl hin dX5_partnerLine_202 (fun H locs hT hS => ?_)
        obtain ⟨z19, ez19⟩ : ∃ y, y = uf z18 3 (((nI 7) * (sx z18 31)) + (nI 2)).toNatClampNeg ((sf z18 3 (((nI 7) * (sx z18 31)) + (nI 2)).toNatClampNeg) + (nI 1)) := ⟨_, rfl⟩
        rw [← ez19] at hT
        replace hw := hw z19 ez19
        exact tw_vret E hr hlocks hT hS hw dX5_partnerLine_203
      · replace hw := hw.2 (c14)
        exact tw_vret E hr hlocks hT hS hw dX5_partnerLine_153
    refine lv_aload_n E.1 E.2.1 dX5_partnerLine_20 rfl (lv_at hl 0 rfl) ?_
    refine tw_callVv E hK hT hS (As := []) (rest := []) (met_next l G ta (d + 5) hw) (cwV 0 E.2.2.2.2 (lw_V q2055 q2057 qs59 q128 q2058) rfl rfl rfl hd_next (rm_ok (by omega) (by decide))) rfl rfl hl.1 (Nat.le_of_ble_eq_true rfl) dX5_partnerLine_21 (fun z20 H locs hw hT hS => ?_)
    refine lv_aload_n E.1 E.2.1 dX5_partnerLine_24 rfl (lv_at hl 0 rfl) ?_
    refine lv_iconst (v := nI 0) E.1 E.2.1 dX5_partnerLine_25 rfl ?_
    refine lv_iconst (v := nI 0) E.1 E.2.1 dX5_partnerLine_26 rfl ?_
    refine tw_callVv E hK hT hS (As := [.int (nI 0), .int (nI 0)]) (rest := []) (met_span l G ta (d) hw) (cwV 2 E.2.2.2.2 (lw_V q2152 q2154 qs71 q128 q2155) rfl rfl rfl hd_span (rm_ok (by omega) (by decide))) rfl rfl hl.1 (Nat.le_of_ble_eq_true rfl) dX5_partnerLine_27 (fun z21 H locs hw hT hS => ?_)
    refine lv_bipush (v := nI 10) E.1 E.2.1 dX5_partnerLine_30 rfl ?_
    refine lv_aload_n E.1 E.2.1 dX5_partnerLine_32 rfl (lv_at hl 0 rfl) ?_
    refine tw_get E hK hT 31 (Nat.le_of_ble_eq_true rfl) q1841 rfl (v := .int (sx z21 31)) rfl dX5_partnerLine_33 ?_
    refine lv_imul E.1 E.2.1 dX5_partnerLine_36 ?_
    refine lv_iload_n E.1 E.2.1 dX5_partnerLine_37 rfl (lv_at hl 1 rfl) ?_
    refine lv_iadd E.1 E.2.1 dX5_partnerLine_38 ?_
    refine lv_topi (fun x22 ex22 => ?_)
    replace hw := hw x22 ex22
    refine lv_istore_n (lv' := [(2, .int (x22)), (0, .ref (ta 73)), (1, .int (x4))]) E.1 E.2.1 dX5_partnerLine_39 rfl hl (Nat.le_of_ble_eq_true rfl) rfl (fun ls hl => ?_)
    refine lv_aload_n E.1 E.2.1 dX5_partnerLine_40 rfl (lv_at hl 1 rfl) ?_
    refine tw_get E hK hT 49 (Nat.le_of_ble_eq_true rfl) q1859 rfl (v := .int (sx z21 49)) rfl dX5_partnerLine_41 ?_
    refine lv_topi (fun x23 ex23 => ?_)
    replace hw := hw x23 ex23
    refine lv_istore_n (lv' := [(3, .int (x23)), (2, .int (x22)), (0, .ref (ta 73)), (1, .int (x4))]) E.1 E.2.1 dX5_partnerLine_44 rfl hl (Nat.le_of_ble_eq_true rfl) rfl (fun ls hl => ?_)
    refine lv_aload_n E.1 E.2.1 dX5_partnerLine_45 rfl (lv_at hl 2 rfl) ?_
    refine tw_get E hK hT 50 (Nat.le_of_ble_eq_true rfl) q1860 rfl (v := .int (sx z21 50)) rfl dX5_partnerLine_46 ?_
    refine lv_topi (fun x24 ex24 => ?_)
    replace hw := hw x24 ex24
    refine lv_istore (lv' := [(4, .int (x24)), (3, .int (x23)), (2, .int (x22)), (0, .ref (ta 73)), (1, .int (x4))]) E.1 E.2.1 dX5_partnerLine_49 hl (Nat.le_of_ble_eq_true rfl) rfl (fun ls hl => ?_)
    refine lv_aload_n E.1 E.2.1 dX5_partnerLine_51 rfl (lv_at hl 3 rfl) ?_
    refine lv_iconst (v := nI 1) E.1 E.2.1 dX5_partnerLine_52 rfl ?_
    refine lv_iconst (v := nI 3) E.1 E.2.1 dX5_partnerLine_53 rfl ?_
    refine tw_callVi E hK hT hS (As := [.int (nI 1), .int (nI 3)]) (rest := []) (met_numberTold l G ta (d + 4) hw) (cwV 2 E.2.2.2.2 (lw_V q2175 q2177 qs76 q128 q2178) rfl rfl rfl hd_numberTold (rm_ok (by omega) (by decide))) rfl rfl hl.1 (Nat.le_of_ble_eq_true rfl) dX5_partnerLine_54 (fun r26 z25 H locs hw hT hS => ?_)
    refine lv_istore (lv' := [(5, .int (r26)), (4, .int (x24)), (3, .int (x23)), (2, .int (x22)), (0, .ref (ta 73)), (1, .int (x4))]) E.1 E.2.1 dX5_partnerLine_57 hl (Nat.le_of_ble_eq_true rfl) rfl (fun ls hl => ?_)
    refine lv_iconst (v := nI 0) E.1 E.2.1 dX5_partnerLine_59 rfl ?_
    refine lv_istore (lv' := [(6, .int (nI 0)), (5, .int (r26)), (4, .int (x24)), (3, .int (x23)), (2, .int (x22)), (0, .ref (ta 73)), (1, .int (x4))]) E.1 E.2.1 dX5_partnerLine_60 hl (Nat.le_of_ble_eq_true rfl) rfl (fun ls hl => ?_)
    refine lv_aload_n E.1 E.2.1 dX5_partnerLine_62 rfl (lv_at hl 5 rfl) ?_
    refine tw_ldcSw E hK 48 2 rfl dX5_partnerLine_63 ?_
    refine tw_callVz E hK hT hS (As := [.ref (gK G 2)]) (rest := []) (met_isWord l G ta (d + 1) hw) (cwV 1 E.2.2.2.2 (lw_V q2079 q2081 qs63 q128 q2082) rfl rfl rfl hd_isWord (rm_ok (by omega) (by decide))) rfl rfl hl.1 (Nat.le_of_ble_eq_true rfl) dX5_partnerLine_66 (fun b28 z27 H locs hw hT hS => ?_)
    refine lv_if_eq (tgt := 142) E.1 E.2.1 dX5_partnerLine_69 (by decide) (fun c29 => ?_) (fun c29 => ?_)
    · replace hw := hw.1 (bi_z c29)
      exact jh6 _ _ _ _ _ _ hw _ _ _ hT hS (lv_sub hl [5, 4, 3, 2, 1, 0] rfl)
    · replace hw := hw.2 (bi_n c29)
      obtain ⟨I30, ⟨n36, hi53⟩, hb52⟩ := hw
      have L34 : ∀ (n31 : Nat) (z32 : TS) (x35 : Int32), I30 n31 z32 x35 → ∀ (H : Heap) (locs : List Loc) (ls : Array Slot), TW G ta z32 H → va_S (TA ta) s.heap H locs → lv_has ls 7 [(0, .ref (ta 73)), (2, .int (x22)), (3, .int (x23)), (4, .int (x24)), (5, .int (r26)), (6, .int (x35))] → W p l e (rmd (d + 9) 0 0) s m args below meth c H locs 0 0 (MQ below (tQv G ta post) args s 0 0 (TA ta)) (F0 m 72 ls []) := by
        intro n31
        induction n31 using Nat.strongRecOn with
        | _ n31 ih33 =>
          intro z32 x35 hw H locs ls hT hS hl
          replace hw := hb52 n31 z32 x35 hw
          obtain ⟨J37, hj51, hw⟩ := hw
          have jh38 : ∀ (z39 : TS) (b40 : Bool), J37 z39 b40 → ∀ (H : Heap) (locs : List Loc) (ls : Array Slot), TW G ta z39 H → va_S (TA ta) s.heap H locs → lv_has ls 7 [(0, .ref (ta 73)), (2, .int (x22)), (3, .int (x23)), (4, .int (x24)), (5, .int (r26)), (6, .int (x35))] → W p l e (rmd (d + 9) 0 0) s m args below meth c H locs 0 0 (MQ below (tQv G ta post) args s 0 0 (TA ta)) (F0 m 89 ls [.int (bi b40), .int (nI 0), .ref (ta 73)]) := by
            intro z39 b40 hw H locs ls hT hS hl
            replace hw := hj51 z39 b40 hw
            refine tw_callVv E hK hT hS (As := [.int (nI 0), .int (bi b40)]) (rest := []) (met_span l G ta (d) hw) (cwV 2 E.2.2.2.2 (lw_V q2152 q2154 qs71 q128 q2155) rfl rfl rfl hd_span (rm_ok (by omega) (by decide))) rfl rfl hl.1 (Nat.le_of_ble_eq_true rfl) dX5_partnerLine_89 (fun z41 H locs hw hT hS => ?_)
            refine lv_aload_n E.1 E.2.1 dX5_partnerLine_92 rfl (lv_at hl 0 rfl) ?_
            refine tw_get E hK hT 48 (Nat.le_of_ble_eq_true rfl) q1858 rfl (v := .int (sx z41 48)) rfl dX5_partnerLine_93 ?_
            refine lv_if_le (tgt := 100) E.1 E.2.1 dX5_partnerLine_96 (by decide) (fun c42 => ?_) (fun c42 => ?_)
            · replace hw := hw.1 (c42)
              refine lv_aload_n E.1 E.2.1 dX5_partnerLine_100 rfl (lv_at hl 0 rfl) ?_
              refine tw_get E hK hT 16 (Nat.le_of_ble_eq_true rfl) q1826 rfl (v := .ref (ta 16)) rfl dX5_partnerLine_101 ?_
              refine lv_iconst (v := nI 3) E.1 E.2.1 dX5_partnerLine_104 rfl ?_
              refine lv_iload_n E.1 E.2.1 dX5_partnerLine_105 rfl (lv_at hl 1 rfl) ?_
              refine lv_imul E.1 E.2.1 dX5_partnerLine_106 ?_
              refine lv_iload E.1 E.2.1 dX5_partnerLine_107 (lv_at hl 5 rfl) ?_
              refine lv_iadd E.1 E.2.1 dX5_partnerLine_109 ?_
              refine lv_aload_n E.1 E.2.1 dX5_partnerLine_110 rfl (lv_at hl 0 rfl) ?_
              refine tw_get E hK hT 49 (Nat.le_of_ble_eq_true rfl) q1859 rfl (v := .int (sx z41 49)) rfl dX5_partnerLine_111 ?_
              obtain ⟨hin, hw⟩ := hw
              refine tw_iast E hK hT hS 16 rfl hin dX5_partnerLine_114 (fun H locs hT hS => ?_)
              obtain ⟨z43, ez43⟩ : ∃ y, y = uf z41 16 (((nI 3) * x22) + x35).toNatClampNeg (sx z41 49) := ⟨_, rfl⟩
              rw [← ez43] at hT
              replace hw := hw z43 ez43
              refine lv_aload_n E.1 E.2.1 dX5_partnerLine_115 rfl (lv_at hl 0 rfl) ?_
              refine tw_get E hK hT 17 (Nat.le_of_ble_eq_true rfl) q1827 rfl (v := .ref (ta 17)) rfl dX5_partnerLine_116 ?_
              refine lv_iconst (v := nI 3) E.1 E.2.1 dX5_partnerLine_119 rfl ?_
              refine lv_iload_n E.1 E.2.1 dX5_partnerLine_120 rfl (lv_at hl 1 rfl) ?_
              refine lv_imul E.1 E.2.1 dX5_partnerLine_121 ?_
              refine lv_iload E.1 E.2.1 dX5_partnerLine_122 (lv_at hl 5 rfl) ?_
              refine lv_iadd E.1 E.2.1 dX5_partnerLine_124 ?_
              refine lv_aload_n E.1 E.2.1 dX5_partnerLine_125 rfl (lv_at hl 0 rfl) ?_
              refine tw_get E hK hT 50 (Nat.le_of_ble_eq_true rfl) q1860 rfl (v := .int (sx z43 50)) rfl dX5_partnerLine_126 ?_
              obtain ⟨hin, hw⟩ := hw
              refine tw_iast E hK hT hS 17 rfl hin dX5_partnerLine_129 (fun H locs hT hS => ?_)
              obtain ⟨z44, ez44⟩ : ∃ y, y = uf z43 17 (((nI 3) * x22) + x35).toNatClampNeg (sx z43 50) := ⟨_, rfl⟩
              rw [← ez44] at hT
              replace hw := hw z44 ez44
              refine lv_iinc (k := 5) (v := x35 + nI 1) (lv' := [(6, .int (x35 + nI 1)), (0, .ref (ta 73)), (2, .int (x22)), (3, .int (x23)), (4, .int (x24)), (5, .int (r26))]) E.1 E.2.1 dX5_partnerLine_130 hl rfl rfl (Nat.le_of_ble_eq_true rfl) rfl (fun ls hl => ?_)
              refine lv_aload_n E.1 E.2.1 dX5_partnerLine_133 rfl (lv_at hl 1 rfl) ?_
              refine lv_bipush (v := nI 44) E.1 E.2.1 dX5_partnerLine_134 rfl ?_
              refine tw_callVz E hK hT hS (As := [.int (nI 44)]) (rest := []) (met_isSign l G ta (d + 8) hw) (cwV 1 E.2.2.2.2 (lw_V q2159 q2161 qs72 q128 q2162) rfl rfl rfl hd_isSign (rm_ok (by omega) (by decide))) rfl rfl hl.1 (Nat.le_of_ble_eq_true rfl) dX5_partnerLine_136 (fun b46 z45 H locs hw hT hS => ?_)
              refine lv_if_ne (tgt := 72) E.1 E.2.1 dX5_partnerLine_139 (by decide) (fun c47 => ?_) (fun c47 => ?_)
              · replace hw := hw.1 (bi_n c47)
                obtain ⟨n48, hnn48, hin48⟩ := hw
                exact ih33 n48 hnn48 _ _ hin48 _ _ _ hT hS (lv_sub hl [1, 2, 3, 4, 5, 0] rfl)
              · replace hw := hw.2 (bi_z c47)
                exact jh6 _ _ _ _ _ _ hw _ _ _ hT hS (lv_sub hl [1, 2, 3, 4, 5, 0] rfl)
            · replace hw := hw.2 (c42)
              exact tw_vret E hr hlocks hT hS hw dX5_partnerLine_99
          refine lv_aload_n E.1 E.2.1 dX5_partnerLine_72 rfl (lv_at hl 0 rfl) ?_
          refine tw_callVv E hK hT hS (As := []) (rest := []) (met_next l G ta (d + 5) hw) (cwV 0 E.2.2.2.2 (lw_V q2055 q2057 qs59 q128 q2058) rfl rfl rfl hd_next (rm_ok (by omega) (by decide))) rfl rfl hl.1 (Nat.le_of_ble_eq_true rfl) dX5_partnerLine_73 (fun z49 H locs hw hT hS => ?_)
          refine lv_aload_n E.1 E.2.1 dX5_partnerLine_76 rfl (lv_at hl 0 rfl) ?_
          refine lv_iconst (v := nI 0) E.1 E.2.1 dX5_partnerLine_77 rfl ?_
          refine lv_iload E.1 E.2.1 dX5_partnerLine_78 (lv_at hl 5 rfl) ?_
          refine lv_iconst (v := nI 3) E.1 E.2.1 dX5_partnerLine_80 rfl ?_
          refine lv_icmp_ne (tgt := 88) E.1 E.2.1 dX5_partnerLine_81 (by decide) (fun c50 => ?_) (fun c50 => ?_)
          · replace hw := hw.1 (c50)
            refine lv_iconst (v := nI 0) E.1 E.2.1 dX5_partnerLine_88 rfl ?_
            exact jh38 _ _ hw _ _ _ hT hS (lv_sub hl [0, 1, 2, 3, 4, 5] rfl)
          · replace hw := hw.2 (c50)
            refine lv_iconst (v := nI 1) E.1 E.2.1 dX5_partnerLine_84 rfl ?_
            refine lv_goto (tgt := 89) E.1 E.2.1 dX5_partnerLine_85 (by decide) ?_
            exact jh38 _ _ hw _ _ _ hT hS (lv_sub hl [0, 1, 2, 3, 4, 5] rfl)
      exact L34 n36 _ _ hi53 _ _ _ hT hS (lv_sub hl [5, 4, 3, 2, 1, 0] rfl)
  refine lv_aload_n E.1 E.2.1 dX5_partnerLine_0 rfl (lv_at hl 0 rfl) ?_
  refine lv_aload_n E.1 E.2.1 dX5_partnerLine_1 rfl (lv_at hl 0 rfl) ?_
  refine tw_get E hK hT 31 (Nat.le_of_ble_eq_true rfl) q1841 rfl (v := .int (sx z0 31)) rfl dX5_partnerLine_2 ?_
  refine tw_callVi E hK hT hS (As := [.int (sx z0 31)]) (rest := []) (met_partners l G ta (d + 8) hw) (cwV 1 E.2.2.2.2 (lw_V q2183 q2185 qs78 q128 q2186) rfl rfl rfl hd_partners (rm_ok (by omega) (by decide))) rfl rfl hl.1 (Nat.le_of_ble_eq_true rfl) dX5_partnerLine_5 (fun r56 z55 H locs hw hT hS => ?_)
  refine lv_istore_n (lv' := [(1, .int (r56)), (0, .ref (ta 73))]) E.1 E.2.1 dX5_partnerLine_8 rfl hl (Nat.le_of_ble_eq_true rfl) rfl (fun ls hl => ?_)
  refine lv_iload_n E.1 E.2.1 dX5_partnerLine_9 rfl (lv_at hl 0 rfl) ?_
  refine lv_bipush (v := nI 10) E.1 E.2.1 dX5_partnerLine_10 rfl ?_
  refine lv_icmp_ne (tgt := 20) E.1 E.2.1 dX5_partnerLine_12 (by decide) (fun c57 => ?_) (fun c57 => ?_)
  · replace hw := hw.1 (c57)
    exact jh2 _ _ hw _ _ _ hT hS (lv_sub hl [1, 0] rfl)
  · replace hw := hw.2 (c57)
    refine lv_aload_n E.1 E.2.1 dX5_partnerLine_15 rfl (lv_at hl 1 rfl) ?_
    refine lv_iconst (v := nI 4) E.1 E.2.1 dX5_partnerLine_16 rfl ?_
    refine tw_callVv E hK hT hS (As := [.int (nI 4)]) (rest := []) (met_wrong l G ta (d + 7) hw) (cwV 1 E.2.2.2.2 (lw_V q2113 q2115 qs66 q128 q2116) rfl rfl rfl hd_wrong (rm_ok (by omega) (by decide))) rfl rfl hl.1 (Nat.le_of_ble_eq_true rfl) dX5_partnerLine_17 (fun z58 H locs hw hT hS => ?_)
    exact jh2 _ _ hw _ _ _ hT hS (lv_sub hl [1, 0] rfl)
/-- ranks(I)I -/
def wp_ranks (post : Int32 → TS → Prop) (z0 : TS) (i1 : Int32) : Prop := vp_in (((nI 7) * i1) + (nI 1)) 21 ∧ post (sf z0 3 (((nI 7) * i1) + (nI 1)).toNatClampNeg) z0
theorem hd_ranks : yX5_ranks.cls = RX5 ∧ yX5_ranks.cls ≠ "java/lang/invoke/MethodHandle" ∧ yX5_ranks.cls ≠ "java/lang/invoke/VarHandle" ∧ (parseMethodDescriptor yX5_ranks.desc).map (fun d => d.parameters.length) = some 1 := by decide +kernel
set_option maxHeartbeats 4000000 in
theorem met_ranks (l : Launch) (G : GP) (ta : Nat → Nat) (d : Nat) {post : Int32 → TS → Prop} {z0 : TS} {i1 : Int32} (hw : wp_ranks post z0 i1) : Met l yX5_ranks (ws_ yX5_ranks cX5_ranks 2 (some .int)) (rmd (d + 0) 0 0) (tPc G ta z0 [.ref (ta 73), .int (i1)]) (tQi G ta post) 0 0 (TA ta) := by
  unfold wp_ranks at hw
  refine tw_met (by decide) rfl (Nat.le_of_ble_eq_true rfl) ?_
  intro p e s m args below meth c ls E hr hlocks hK hT hS hl
  replace hl : lv_has ls 2 [(0, .ref (ta 73)), (1, .int (i1))] := hl
  refine lv_aload_n E.1 E.2.1 dX5_ranks_0 rfl (lv_at hl 0 rfl) ?_
  refine tw_get E hK hT 3 (Nat.le_of_ble_eq_true rfl) q1813 rfl (v := .ref (ta 3)) rfl dX5_ranks_1 ?_
  refine lv_bipush (v := nI 7) E.1 E.2.1 dX5_ranks_4 rfl ?_
  refine lv_iload_n E.1 E.2.1 dX5_ranks_6 rfl (lv_at hl 1 rfl) ?_
  refine lv_imul E.1 E.2.1 dX5_ranks_7 ?_
  refine lv_iconst (v := nI 1) E.1 E.2.1 dX5_ranks_8 rfl ?_
  refine lv_iadd E.1 E.2.1 dX5_ranks_9 ?_
  obtain ⟨hin, hw⟩ := hw
  refine tw_iald E hK hT 3 rfl hin dX5_ranks_10 ?_
  exact tw_ireti E hr hlocks hT hS hw dX5_ranks_11
/-- rankLine()V -/
def wp_rankLine (post : TS → Prop) (z0 : TS) : Prop := ∃ J1 : TS → Int32 → Prop, (∀ (z3 : TS) (x4 : Int32), J1 z3 x4 → wp_next (fun z5 => wp_span (fun z6 => ∀ x7, x7 = sx z6 49 → ∀ x8, x8 = sx z6 50 → wp_numberTold (fun r10 z9 => wp_lineEnds (fun z11 => ((sx z11 48) ≤ 0 → vp_in (((nI 10) * (sx z11 31)) + x4) 30 ∧ ∀ z13, z13 = uf z11 9 (((nI 10) * (sx z11 31)) + x4).toNatClampNeg x7 → vp_in (((nI 10) * (sx z13 31)) + x4) 30 ∧ ∀ z14, z14 = uf z13 10 (((nI 10) * (sx z13 31)) + x4).toNatClampNeg x8 → vp_in (((nI 10) * (sx z14 31)) + x4) 30 ∧ ∀ z15, z15 = uf z14 11 (((nI 10) * (sx z14 31)) + x4).toNatClampNeg r10 → vp_in (((nI 7) * (sx z15 31)) + (nI 1)) 21 ∧ vp_in (((nI 7) * (sx z15 31)) + (nI 1)) 21 ∧ ∀ z16, z16 = uf z15 3 (((nI 7) * (sx z15 31)) + (nI 1)).toNatClampNeg ((sf z15 3 (((nI 7) * (sx z15 31)) + (nI 1)).toNatClampNeg) + (nI 1)) → post z16) ∧ (¬ (sx z11 48) ≤ 0 → post z11)) z9) z6 (nI 1) (nI 9)) z5 true false) z3) ∧ (wp_ranks (fun r18 z17 => (¬ r18 = (nI 10) → J1 z17 r18) ∧ (r18 = (nI 10) → wp_wrong (fun z20 => J1 z20 r18) z17 (nI 4))) z0 (sx z0 31))
theorem hd_rankLine : yX5_rankLine.cls = RX5 ∧ yX5_rankLine.cls ≠ "java/lang/invoke/MethodHandle" ∧ yX5_rankLine.cls ≠ "java/lang/invoke/VarHandle" ∧ (parseMethodDescriptor yX5_rankLine.desc).map (fun d => d.parameters.length) = some 0 := by decide +kernel
set_option maxHeartbeats 4000000 in
theorem met_rankLine (l : Launch) (G : GP) (ta : Nat → Nat) (d : Nat) {post : TS → Prop} {z0 : TS} (hw : wp_rankLine post z0) : Met l yX5_rankLine (ws_ yX5_rankLine cX5_rankLine 5 none) (rmd (d + 9) 0 0) (tPc G ta z0 [.ref (ta 73)]) (tQv G ta post) 0 0 (TA ta) := by
  unfold wp_rankLine at hw
  refine tw_met (by decide) rfl (Nat.le_of_ble_eq_true rfl) ?_
  intro p e s m args below meth c ls E hr hlocks hK hT hS hl
  replace hl : lv_has ls 5 [(0, .ref (ta 73))] := hl
  obtain ⟨J1, hj21, hw⟩ := hw
  have jh2 : ∀ (z3 : TS) (x4 : Int32), J1 z3 x4 → ∀ (H : Heap) (locs : List Loc) (ls : Array Slot), TW G ta z3 H → va_S (TA ta) s.heap H locs → lv_has ls 5 [(0, .ref (ta 73)), (1, .int (x4))] → W p l e (rmd (d + 9) 0 0) s m args below meth c H locs 0 0 (MQ below (tQv G ta post) args s 0 0 (TA ta)) (F0 m 20 ls []) := by
    intro z3 x4 hw H locs ls hT hS hl
    replace hw := hj21 z3 x4 hw
    refine lv_aload_n E.1 E.2.1 dX5_rankLine_20 rfl (lv_at hl 0 rfl) ?_
    refine tw_callVv E hK hT hS (As := []) (rest := []) (met_next l G ta (d + 5) hw) (cwV 0 E.2.2.2.2 (lw_V q2055 q2057 qs59 q128 q2058) rfl rfl rfl hd_next (rm_ok (by omega) (by decide))) rfl rfl hl.1 (Nat.le_of_ble_eq_true rfl) dX5_rankLine_21 (fun z5 H locs hw hT hS => ?_)
    refine lv_aload_n E.1 E.2.1 dX5_rankLine_24 rfl (lv_at hl 0 rfl) ?_
    refine lv_iconst (v := nI 1) E.1 E.2.1 dX5_rankLine_25 rfl ?_
    refine lv_iconst (v := nI 0) E.1 E.2.1 dX5_rankLine_26 rfl ?_
    refine tw_callVv E hK hT hS (As := [.int (nI 1), .int (nI 0)]) (rest := []) (met_span l G ta (d) hw) (cwV 2 E.2.2.2.2 (lw_V q2152 q2154 qs71 q128 q2155) rfl rfl rfl hd_span (rm_ok (by omega) (by decide))) rfl rfl hl.1 (Nat.le_of_ble_eq_true rfl) dX5_rankLine_27 (fun z6 H locs hw hT hS => ?_)
    refine lv_aload_n E.1 E.2.1 dX5_rankLine_30 rfl (lv_at hl 0 rfl) ?_
    refine tw_get E hK hT 49 (Nat.le_of_ble_eq_true rfl) q1859 rfl (v := .int (sx z6 49)) rfl dX5_rankLine_31 ?_
    refine lv_topi (fun x7 ex7 => ?_)
    replace hw := hw x7 ex7
    refine lv_istore_n (lv' := [(2, .int (x7)), (0, .ref (ta 73)), (1, .int (x4))]) E.1 E.2.1 dX5_rankLine_34 rfl hl (Nat.le_of_ble_eq_true rfl) rfl (fun ls hl => ?_)
    refine lv_aload_n E.1 E.2.1 dX5_rankLine_35 rfl (lv_at hl 1 rfl) ?_
    refine tw_get E hK hT 50 (Nat.le_of_ble_eq_true rfl) q1860 rfl (v := .int (sx z6 50)) rfl dX5_rankLine_36 ?_
    refine lv_topi (fun x8 ex8 => ?_)
    replace hw := hw x8 ex8
    refine lv_istore_n (lv' := [(3, .int (x8)), (2, .int (x7)), (0, .ref (ta 73)), (1, .int (x4))]) E.1 E.2.1 dX5_rankLine_39 rfl hl (Nat.le_of_ble_eq_true rfl) rfl (fun ls hl => ?_)
    refine lv_aload_n E.1 E.2.1 dX5_rankLine_40 rfl (lv_at hl 2 rfl) ?_
    refine lv_iconst (v := nI 1) E.1 E.2.1 dX5_rankLine_41 rfl ?_
    refine lv_bipush (v := nI 9) E.1 E.2.1 dX5_rankLine_42 rfl ?_
    refine tw_callVi E hK hT hS (As := [.int (nI 1), .int (nI 9)]) (rest := []) (met_numberTold l G ta (d + 4) hw) (cwV 2 E.2.2.2.2 (lw_V q2175 q2177 qs76 q128 q2178) rfl rfl rfl hd_numberTold (rm_ok (by omega) (by decide))) rfl rfl hl.1 (Nat.le_of_ble_eq_true rfl) dX5_rankLine_44 (fun r10 z9 H locs hw hT hS => ?_)
    refine lv_istore (lv' := [(4, .int (r10)), (3, .int (x8)), (2, .int (x7)), (0, .ref (ta 73)), (1, .int (x4))]) E.1 E.2.1 dX5_rankLine_47 hl (Nat.le_of_ble_eq_true rfl) rfl (fun ls hl => ?_)
    refine lv_aload_n E.1 E.2.1 dX5_rankLine_49 rfl (lv_at hl 3 rfl) ?_
    refine tw_callVv E hK hT hS (As := []) (rest := []) (met_lineEnds l G ta (d + 6) hw) (cwV 0 E.2.2.2.2 (lw_V q2163 q2165 qs73 q128 q2166) rfl rfl rfl hd_lineEnds (rm_ok (by omega) (by decide))) rfl rfl hl.1 (Nat.le_of_ble_eq_true rfl) dX5_rankLine_50 (fun z11 H locs hw hT hS => ?_)
    refine lv_aload_n E.1 E.2.1 dX5_rankLine_53 rfl (lv_at hl 3 rfl) ?_
    refine tw_get E hK hT 48 (Nat.le_of_ble_eq_true rfl) q1858 rfl (v := .int (sx z11 48)) rfl dX5_rankLine_54 ?_
    refine lv_if_le (tgt := 61) E.1 E.2.1 dX5_rankLine_57 (by decide) (fun c12 => ?_) (fun c12 => ?_)
    · replace hw := hw.1 (c12)
      refine lv_aload_n E.1 E.2.1 dX5_rankLine_61 rfl (lv_at hl 3 rfl) ?_
      refine tw_get E hK hT 9 (Nat.le_of_ble_eq_true rfl) q1819 rfl (v := .ref (ta 9)) rfl dX5_rankLine_62 ?_
      refine lv_bipush (v := nI 10) E.1 E.2.1 dX5_rankLine_65 rfl ?_
      refine lv_aload_n E.1 E.2.1 dX5_rankLine_67 rfl (lv_at hl 3 rfl) ?_
      refine tw_get E hK hT 31 (Nat.le_of_ble_eq_true rfl) q1841 rfl (v := .int (sx z11 31)) rfl dX5_rankLine_68 ?_
      refine lv_imul E.1 E.2.1 dX5_rankLine_71 ?_
      refine lv_iload_n E.1 E.2.1 dX5_rankLine_72 rfl (lv_at hl 4 rfl) ?_
      refine lv_iadd E.1 E.2.1 dX5_rankLine_73 ?_
      refine lv_iload_n E.1 E.2.1 dX5_rankLine_74 rfl (lv_at hl 2 rfl) ?_
      obtain ⟨hin, hw⟩ := hw
      refine tw_iast E hK hT hS 9 rfl hin dX5_rankLine_75 (fun H locs hT hS => ?_)
      obtain ⟨z13, ez13⟩ : ∃ y, y = uf z11 9 (((nI 10) * (sx z11 31)) + x4).toNatClampNeg x7 := ⟨_, rfl⟩
      rw [← ez13] at hT
      replace hw := hw z13 ez13
      refine lv_aload_n E.1 E.2.1 dX5_rankLine_76 rfl (lv_at hl 3 rfl) ?_
      refine tw_get E hK hT 10 (Nat.le_of_ble_eq_true rfl) q1820 rfl (v := .ref (ta 10)) rfl dX5_rankLine_77 ?_
      refine lv_bipush (v := nI 10) E.1 E.2.1 dX5_rankLine_80 rfl ?_
      refine lv_aload_n E.1 E.2.1 dX5_rankLine_82 rfl (lv_at hl 3 rfl) ?_
      refine tw_get E hK hT 31 (Nat.le_of_ble_eq_true rfl) q1841 rfl (v := .int (sx z13 31)) rfl dX5_rankLine_83 ?_
      refine lv_imul E.1 E.2.1 dX5_rankLine_86 ?_
      refine lv_iload_n E.1 E.2.1 dX5_rankLine_87 rfl (lv_at hl 4 rfl) ?_
      refine lv_iadd E.1 E.2.1 dX5_rankLine_88 ?_
      refine lv_iload_n E.1 E.2.1 dX5_rankLine_89 rfl (lv_at hl 1 rfl) ?_
      obtain ⟨hin, hw⟩ := hw
      refine tw_iast E hK hT hS 10 rfl hin dX5_rankLine_90 (fun H locs hT hS => ?_)
      obtain ⟨z14, ez14⟩ : ∃ y, y = uf z13 10 (((nI 10) * (sx z13 31)) + x4).toNatClampNeg x8 := ⟨_, rfl⟩
      rw [← ez14] at hT
      replace hw := hw z14 ez14
      refine lv_aload_n E.1 E.2.1 dX5_rankLine_91 rfl (lv_at hl 3 rfl) ?_
      refine tw_get E hK hT 11 (Nat.le_of_ble_eq_true rfl) q1821 rfl (v := .ref (ta 11)) rfl dX5_rankLine_92 ?_
      refine lv_bipush (v := nI 10) E.1 E.2.1 dX5_rankLine_95 rfl ?_
      refine lv_aload_n E.1 E.2.1 dX5_rankLine_97 rfl (lv_at hl 3 rfl) ?_
      refine tw_get E hK hT 31 (Nat.le_of_ble_eq_true rfl) q1841 rfl (v := .int (sx z14 31)) rfl dX5_rankLine_98 ?_
      refine lv_imul E.1 E.2.1 dX5_rankLine_101 ?_
      refine lv_iload_n E.1 E.2.1 dX5_rankLine_102 rfl (lv_at hl 4 rfl) ?_
      refine lv_iadd E.1 E.2.1 dX5_rankLine_103 ?_
      refine lv_iload E.1 E.2.1 dX5_rankLine_104 (lv_at hl 0 rfl) ?_
      obtain ⟨hin, hw⟩ := hw
      refine tw_iast E hK hT hS 11 rfl hin dX5_rankLine_106 (fun H locs hT hS => ?_)
      obtain ⟨z15, ez15⟩ : ∃ y, y = uf z14 11 (((nI 10) * (sx z14 31)) + x4).toNatClampNeg r10 := ⟨_, rfl⟩
      rw [← ez15] at hT
      replace hw := hw z15 ez15
      refine lv_aload_n E.1 E.2.1 dX5_rankLine_107 rfl (lv_at hl 3 rfl) ?_
      refine tw_get E hK hT 3 (Nat.le_of_ble_eq_true rfl) q1813 rfl (v := .ref (ta 3)) rfl dX5_rankLine_108 ?_
      refine lv_bipush (v := nI 7) E.1 E.2.1 dX5_rankLine_111 rfl ?_
      refine lv_aload_n E.1 E.2.1 dX5_rankLine_113 rfl (lv_at hl 3 rfl) ?_
      refine tw_get E hK hT 31 (Nat.le_of_ble_eq_true rfl) q1841 rfl (v := .int (sx z15 31)) rfl dX5_rankLine_114 ?_
      refine lv_imul E.1 E.2.1 dX5_rankLine_117 ?_
      refine lv_iconst (v := nI 1) E.1 E.2.1 dX5_rankLine_118 rfl ?_
      refine lv_iadd E.1 E.2.1 dX5_rankLine_119 ?_
      refine lv_dup2_11 E.1 E.2.1 dX5_rankLine_120 rfl rfl ?_
      obtain ⟨hin, hw⟩ := hw
      refine tw_iald E hK hT 3 rfl hin dX5_rankLine_121 ?_
      refine lv_iconst (v := nI 1) E.1 E.2.1 dX5_rankLine_122 rfl ?_
      refine lv_iadd E.1 E.2.1 dX5_rankLine_123 ?_
      obtain ⟨hin, hw⟩ := hw
      refine tw_iast E hK hT hS 3 rfl hin dX5_rankLine_124 (fun H locs hT hS => ?_)
      obtain ⟨z16, ez16⟩ : ∃ y, y = uf z15 3 (((nI 7) * (sx z15 31)) + (nI 1)).toNatClampNeg ((sf z15 3 (((nI 7) * (sx z15 31)) + (nI 1)).toNatClampNeg) + (nI 1)) := ⟨_, rfl⟩
      rw [← ez16] at hT
      replace hw := hw z16 ez16
      exact tw_vret E hr hlocks hT hS hw dX5_rankLine_125
    · replace hw := hw.2 (c12)
      exact tw_vret E hr hlocks hT hS hw dX5_rankLine_60
  refine lv_aload_n E.1 E.2.1 dX5_rankLine_0 rfl (lv_at hl 0 rfl) ?_
  refine lv_aload_n E.1 E.2.1 dX5_rankLine_1 rfl (lv_at hl 0 rfl) ?_
  refine tw_get E hK hT 31 (Nat.le_of_ble_eq_true rfl) q1841 rfl (v := .int (sx z0 31)) rfl dX5_rankLine_2 ?_
  refine tw_callVi E hK hT hS (As := [.int (sx z0 31)]) (rest := []) (met_ranks l G ta (d + 8) hw) (cwV 1 E.2.2.2.2 (lw_V q2171 q2173 qs75 q128 q2174) rfl rfl rfl hd_ranks (rm_ok (by omega) (by decide))) rfl rfl hl.1 (Nat.le_of_ble_eq_true rfl) dX5_rankLine_5 (fun r18 z17 H locs hw hT hS => ?_)
  refine lv_istore_n (lv' := [(1, .int (r18)), (0, .ref (ta 73))]) E.1 E.2.1 dX5_rankLine_8 rfl hl (Nat.le_of_ble_eq_true rfl) rfl (fun ls hl => ?_)
  refine lv_iload_n E.1 E.2.1 dX5_rankLine_9 rfl (lv_at hl 0 rfl) ?_
  refine lv_bipush (v := nI 10) E.1 E.2.1 dX5_rankLine_10 rfl ?_
  refine lv_icmp_ne (tgt := 20) E.1 E.2.1 dX5_rankLine_12 (by decide) (fun c19 => ?_) (fun c19 => ?_)
  · replace hw := hw.1 (c19)
    exact jh2 _ _ hw _ _ _ hT hS (lv_sub hl [1, 0] rfl)
  · replace hw := hw.2 (c19)
    refine lv_aload_n E.1 E.2.1 dX5_rankLine_15 rfl (lv_at hl 1 rfl) ?_
    refine lv_iconst (v := nI 4) E.1 E.2.1 dX5_rankLine_16 rfl ?_
    refine tw_callVv E hK hT hS (As := [.int (nI 4)]) (rest := []) (met_wrong l G ta (d + 7) hw) (cwV 1 E.2.2.2.2 (lw_V q2113 q2115 qs66 q128 q2116) rfl rfl rfl hd_wrong (rm_ok (by omega) (by decide))) rfl rfl hl.1 (Nat.le_of_ble_eq_true rfl) dX5_rankLine_17 (fun z20 H locs hw hT hS => ?_)
    exact jh2 _ _ hw _ _ _ hT hS (lv_sub hl [1, 0] rfl)
/-- newCond(IIII)I -/
def wp_newCond (post : Int32 → TS → Prop) (z0 : TS) (i1 : Int32) (i2 : Int32) (i3 : Int32) (i4 : Int32) : Prop := vp_in (((nI 7) * (sx z0 31)) + (nI 5)) 21 ∧ ∀ x1, x1 = sf z0 3 (((nI 7) * (sx z0 31)) + (nI 5)).toNatClampNeg → ∀ x2, x2 = ((nI 400) * (sx z0 31)) + x1 → vp_in (x2) 1200 ∧ ∀ z3, z3 = uf z0 25 x2.toNatClampNeg i1 → vp_in (x2) 1200 ∧ ∀ z4, z4 = uf z3 26 x2.toNatClampNeg i2 → vp_in (x2) 1200 ∧ ∀ z5, z5 = uf z4 27 x2.toNatClampNeg i3 → vp_in (x2) 1200 ∧ ∀ z6, z6 = uf z5 28 x2.toNatClampNeg i4 → vp_in (((nI 7) * (sx z6 31)) + (nI 5)) 21 ∧ vp_in (((nI 7) * (sx z6 31)) + (nI 5)) 21 ∧ ∀ z7, z7 = uf z6 3 (((nI 7) * (sx z6 31)) + (nI 5)).toNatClampNeg ((sf z6 3 (((nI 7) * (sx z6 31)) + (nI 5)).toNatClampNeg) + (nI 1)) → post x1 z7
theorem hd_newCond : yX5_newCond.cls = RX5 ∧ yX5_newCond.cls ≠ "java/lang/invoke/MethodHandle" ∧ yX5_newCond.cls ≠ "java/lang/invoke/VarHandle" ∧ (parseMethodDescriptor yX5_newCond.desc).map (fun d => d.parameters.length) = some 4 := by decide +kernel
set_option maxHeartbeats 4000000 in
theorem met_newCond (l : Launch) (G : GP) (ta : Nat → Nat) (d : Nat) {post : Int32 → TS → Prop} {z0 : TS} {i1 : Int32} {i2 : Int32} {i3 : Int32} {i4 : Int32} (hw : wp_newCond post z0 i1 i2 i3 i4) : Met l yX5_newCond (ws_ yX5_newCond cX5_newCond 7 (some .int)) (rmd (d + 0) 0 0) (tPc G ta z0 [.ref (ta 73), .int (i1), .int (i2), .int (i3), .int (i4)]) (tQi G ta post) 0 0 (TA ta) := by
  unfold wp_newCond at hw
  refine tw_met (by decide) rfl (Nat.le_of_ble_eq_true rfl) ?_
  intro p e s m args below meth c ls E hr hlocks hK hT hS hl
  replace hl : lv_has ls 7 [(0, .ref (ta 73)), (1, .int (i1)), (2, .int (i2)), (3, .int (i3)), (4, .int (i4))] := hl
  refine lv_aload_n E.1 E.2.1 dX5_newCond_0 rfl (lv_at hl 0 rfl) ?_
  refine tw_get E hK hT 3 (Nat.le_of_ble_eq_true rfl) q1813 rfl (v := .ref (ta 3)) rfl dX5_newCond_1 ?_
  refine lv_bipush (v := nI 7) E.1 E.2.1 dX5_newCond_4 rfl ?_
  refine lv_aload_n E.1 E.2.1 dX5_newCond_6 rfl (lv_at hl 0 rfl) ?_
  refine tw_get E hK hT 31 (Nat.le_of_ble_eq_true rfl) q1841 rfl (v := .int (sx z0 31)) rfl dX5_newCond_7 ?_
  refine lv_imul E.1 E.2.1 dX5_newCond_10 ?_
  refine lv_iconst (v := nI 5) E.1 E.2.1 dX5_newCond_11 rfl ?_
  refine lv_iadd E.1 E.2.1 dX5_newCond_12 ?_
  obtain ⟨hin, hw⟩ := hw
  refine tw_iald E hK hT 3 rfl hin dX5_newCond_13 ?_
  refine lv_topi (fun x1 ex1 => ?_)
  replace hw := hw x1 ex1
  refine lv_istore (lv' := [(5, .int (x1)), (0, .ref (ta 73)), (1, .int (i1)), (2, .int (i2)), (3, .int (i3)), (4, .int (i4))]) E.1 E.2.1 dX5_newCond_14 hl (Nat.le_of_ble_eq_true rfl) rfl (fun ls hl => ?_)
  refine lv_sipush (v := nI 400) E.1 E.2.1 dX5_newCond_16 rfl ?_
  refine lv_aload_n E.1 E.2.1 dX5_newCond_19 rfl (lv_at hl 1 rfl) ?_
  refine tw_get E hK hT 31 (Nat.le_of_ble_eq_true rfl) q1841 rfl (v := .int (sx z0 31)) rfl dX5_newCond_20 ?_
  refine lv_imul E.1 E.2.1 dX5_newCond_23 ?_
  refine lv_iload E.1 E.2.1 dX5_newCond_24 (lv_at hl 0 rfl) ?_
  refine lv_iadd E.1 E.2.1 dX5_newCond_26 ?_
  refine lv_topi (fun x2 ex2 => ?_)
  replace hw := hw x2 ex2
  refine lv_istore (lv' := [(6, .int (x2)), (5, .int (x1)), (0, .ref (ta 73)), (1, .int (i1)), (2, .int (i2)), (3, .int (i3)), (4, .int (i4))]) E.1 E.2.1 dX5_newCond_27 hl (Nat.le_of_ble_eq_true rfl) rfl (fun ls hl => ?_)
  refine lv_aload_n E.1 E.2.1 dX5_newCond_29 rfl (lv_at hl 2 rfl) ?_
  refine tw_get E hK hT 25 (Nat.le_of_ble_eq_true rfl) q1835 rfl (v := .ref (ta 25)) rfl dX5_newCond_30 ?_
  refine lv_iload E.1 E.2.1 dX5_newCond_33 (lv_at hl 0 rfl) ?_
  refine lv_iload_n E.1 E.2.1 dX5_newCond_35 rfl (lv_at hl 3 rfl) ?_
  obtain ⟨hin, hw⟩ := hw
  refine tw_iast E hK hT hS 25 rfl hin dX5_newCond_36 (fun H locs hT hS => ?_)
  obtain ⟨z3, ez3⟩ : ∃ y, y = uf z0 25 x2.toNatClampNeg i1 := ⟨_, rfl⟩
  rw [← ez3] at hT
  replace hw := hw z3 ez3
  refine lv_aload_n E.1 E.2.1 dX5_newCond_37 rfl (lv_at hl 2 rfl) ?_
  refine tw_get E hK hT 26 (Nat.le_of_ble_eq_true rfl) q1836 rfl (v := .ref (ta 26)) rfl dX5_newCond_38 ?_
  refine lv_iload E.1 E.2.1 dX5_newCond_41 (lv_at hl 0 rfl) ?_
  refine lv_iload_n E.1 E.2.1 dX5_newCond_43 rfl (lv_at hl 4 rfl) ?_
  obtain ⟨hin, hw⟩ := hw
  refine tw_iast E hK hT hS 26 rfl hin dX5_newCond_44 (fun H locs hT hS => ?_)
  obtain ⟨z4, ez4⟩ : ∃ y, y = uf z3 26 x2.toNatClampNeg i2 := ⟨_, rfl⟩
  rw [← ez4] at hT
  replace hw := hw z4 ez4
  refine lv_aload_n E.1 E.2.1 dX5_newCond_45 rfl (lv_at hl 2 rfl) ?_
  refine tw_get E hK hT 27 (Nat.le_of_ble_eq_true rfl) q1837 rfl (v := .ref (ta 27)) rfl dX5_newCond_46 ?_
  refine lv_iload E.1 E.2.1 dX5_newCond_49 (lv_at hl 0 rfl) ?_
  refine lv_iload_n E.1 E.2.1 dX5_newCond_51 rfl (lv_at hl 5 rfl) ?_
  obtain ⟨hin, hw⟩ := hw
  refine tw_iast E hK hT hS 27 rfl hin dX5_newCond_52 (fun H locs hT hS => ?_)
  obtain ⟨z5, ez5⟩ : ∃ y, y = uf z4 27 x2.toNatClampNeg i3 := ⟨_, rfl⟩
  rw [← ez5] at hT
  replace hw := hw z5 ez5
  refine lv_aload_n E.1 E.2.1 dX5_newCond_53 rfl (lv_at hl 2 rfl) ?_
  refine tw_get E hK hT 28 (Nat.le_of_ble_eq_true rfl) q1838 rfl (v := .ref (ta 28)) rfl dX5_newCond_54 ?_
  refine lv_iload E.1 E.2.1 dX5_newCond_57 (lv_at hl 0 rfl) ?_
  refine lv_iload E.1 E.2.1 dX5_newCond_59 (lv_at hl 6 rfl) ?_
  obtain ⟨hin, hw⟩ := hw
  refine tw_iast E hK hT hS 28 rfl hin dX5_newCond_61 (fun H locs hT hS => ?_)
  obtain ⟨z6, ez6⟩ : ∃ y, y = uf z5 28 x2.toNatClampNeg i4 := ⟨_, rfl⟩
  rw [← ez6] at hT
  replace hw := hw z6 ez6
  refine lv_aload_n E.1 E.2.1 dX5_newCond_62 rfl (lv_at hl 2 rfl) ?_
  refine tw_get E hK hT 3 (Nat.le_of_ble_eq_true rfl) q1813 rfl (v := .ref (ta 3)) rfl dX5_newCond_63 ?_
  refine lv_bipush (v := nI 7) E.1 E.2.1 dX5_newCond_66 rfl ?_
  refine lv_aload_n E.1 E.2.1 dX5_newCond_68 rfl (lv_at hl 2 rfl) ?_
  refine tw_get E hK hT 31 (Nat.le_of_ble_eq_true rfl) q1841 rfl (v := .int (sx z6 31)) rfl dX5_newCond_69 ?_
  refine lv_imul E.1 E.2.1 dX5_newCond_72 ?_
  refine lv_iconst (v := nI 5) E.1 E.2.1 dX5_newCond_73 rfl ?_
  refine lv_iadd E.1 E.2.1 dX5_newCond_74 ?_
  refine lv_dup2_11 E.1 E.2.1 dX5_newCond_75 rfl rfl ?_
  obtain ⟨hin, hw⟩ := hw
  refine tw_iald E hK hT 3 rfl hin dX5_newCond_76 ?_
  refine lv_iconst (v := nI 1) E.1 E.2.1 dX5_newCond_77 rfl ?_
  refine lv_iadd E.1 E.2.1 dX5_newCond_78 ?_
  obtain ⟨hin, hw⟩ := hw
  refine tw_iast E hK hT hS 3 rfl hin dX5_newCond_79 (fun H locs hT hS => ?_)
  obtain ⟨z7, ez7⟩ : ∃ y, y = uf z6 3 (((nI 7) * (sx z6 31)) + (nI 5)).toNatClampNeg ((sf z6 3 (((nI 7) * (sx z6 31)) + (nI 5)).toNatClampNeg) + (nI 1)) := ⟨_, rfl⟩
  rw [← ez7] at hT
  replace hw := hw z7 ez7
  refine lv_iload E.1 E.2.1 dX5_newCond_80 (lv_at hl 1 rfl) ?_
  exact tw_ireti E hr hlocks hT hS hw dX5_newCond_82
/-- comparison(I)I -/
def wp_comparison (post : Int32 → TS → Prop) (z0 : TS) (i1 : Int32) : Prop := ∃ J1 : TS → Int32 → Int32 → Prop, (∀ (z3 : TS) (x4 : Int32) (x5 : Int32), J1 z3 x4 x5 → ∃ J6 : TS → Int32 → Prop, (∀ (z8 : TS) (x9 : Int32), J6 z8 x9 → wp_next (fun z10 => wp_numberTold (fun r12 z11 => ((sx z11 48) ≤ 0 → ∃ I14 : Nat → TS → Int32 → Prop, (∃ n20, I14 n20 z11 (nI 0)) ∧ ∀ (n15 : Nat) (z16 : TS) (x19 : Int32), I14 n15 z16 x19 → ∃ J21 : TS → Int32 → Prop, (∀ (z23 : TS) (x24 : Int32), J21 z23 x24 → (¬ x24 = (nI 6) → ∃ J26 : TS → Prop, (∀ (z28 : TS), J26 z28  → wp_newCond (fun r30 z29 => post r30 z29) z28 i1 x9 r12 x24) ∧ ((¬ x24 = (sx z23 59) → J26 z23 ) ∧ (x24 = (sx z23 59) → vp_in (x24) 6 ∧ ∀ z32, z32 = uf z23 56 x24.toNatClampNeg i1 → vp_in (x24) 6 ∧ ∀ z33, z33 = uf z32 57 x24.toNatClampNeg x9 → vp_in (x24) 6 ∧ ∀ z34, z34 = uf z33 58 x24.toNatClampNeg r12 → ∀ z35, z35 = ux z34 59 ((sx z34 59) + (nI 1)) → J26 z35 ))) ∧ (x24 = (nI 6) → wp_wrongAt (fun z37 => post (nI 0) z37) z23 (nI 4) x4)) ∧ (((sx z16 59) ≤ x19 → J21 z16 x19) ∧ (¬ (sx z16 59) ≤ x19 → vp_in (x19) 6 ∧ (¬ (sf z16 56 x19.toNatClampNeg) = i1 → ∃ n40, n40 < n15 ∧ I14 n40 z16 (x19 + nI 1)) ∧ ((sf z16 56 x19.toNatClampNeg) = i1 → vp_in (x19) 6 ∧ (¬ (sf z16 57 x19.toNatClampNeg) = x9 → ∃ n42, n42 < n15 ∧ I14 n42 z16 (x19 + nI 1)) ∧ ((sf z16 57 x19.toNatClampNeg) = x9 → vp_in (x19) 6 ∧ ((sf z16 58 x19.toNatClampNeg) = r12 → J21 z16 x19) ∧ (¬ (sf z16 58 x19.toNatClampNeg) = r12 → ∃ n44, n44 < n15 ∧ I14 n44 z16 (x19 + nI 1))))))) ∧ (¬ (sx z11 48) ≤ 0 → post (nI 0) z11)) z10 (nI 0) (nI 999)) z8) ∧ ((0 ≤ x5 → J6 z3 x5) ∧ (¬ 0 ≤ x5 → wp_wrong (fun z49 => J6 z49 x5) z3 (nI 1)))) ∧ (∀ x51, x51 = sx z0 43 → wp_next (fun z52 => wp_isSign (fun b54 z53 => (b54 = false → wp_isSign (fun b57 z56 => (b57 = false → J1 z56 x51 ((-1))) ∧ (b57 = true → J1 z56 x51 (nI 1))) z53 (nI 62)) ∧ (b54 = true → J1 z53 x51 (nI 0))) z52 (nI 60)) z0)
theorem hd_comparison : yX5_comparison.cls = RX5 ∧ yX5_comparison.cls ≠ "java/lang/invoke/MethodHandle" ∧ yX5_comparison.cls ≠ "java/lang/invoke/VarHandle" ∧ (parseMethodDescriptor yX5_comparison.desc).map (fun d => d.parameters.length) = some 1 := by decide +kernel
set_option maxHeartbeats 4000000 in
theorem met_comparison (l : Launch) (G : GP) (ta : Nat → Nat) (d : Nat) {post : Int32 → TS → Prop} {z0 : TS} {i1 : Int32} (hw : wp_comparison post z0 i1) : Met l yX5_comparison (ws_ yX5_comparison cX5_comparison 6 (some .int)) (rmd (d + 5) 0 0) (tPc G ta z0 [.ref (ta 73), .int (i1)]) (tQi G ta post) 0 0 (TA ta) := by
  unfold wp_comparison at hw
  refine tw_met (by decide) rfl (Nat.le_of_ble_eq_true rfl) ?_
  intro p e s m args below meth c ls E hr hlocks hK hT hS hl
  replace hl : lv_has ls 6 [(0, .ref (ta 73)), (1, .int (i1))] := hl
  obtain ⟨J1, hj59, hw⟩ := hw
  have jh2 : ∀ (z3 : TS) (x4 : Int32) (x5 : Int32), J1 z3 x4 x5 → ∀ (H : Heap) (locs : List Loc) (ls : Array Slot), TW G ta z3 H → va_S (TA ta) s.heap H locs → lv_has ls 6 [(0, .ref (ta 73)), (1, .int (i1)), (2, .int (x4))] → W p l e (rmd (d + 5) 0 0) s m args below meth c H locs 0 0 (MQ below (tQi G ta post) args s 0 0 (TA ta)) (F0 m 36 ls [.int (x5)]) := by
    intro z3 x4 x5 hw H locs ls hT hS hl
    replace hw := hj59 z3 x4 x5 hw
    obtain ⟨J6, hj50, hw⟩ := hw
    have jh7 : ∀ (z8 : TS) (x9 : Int32), J6 z8 x9 → ∀ (H : Heap) (locs : List Loc) (ls : Array Slot), TW G ta z8 H → va_S (TA ta) s.heap H locs → lv_has ls 6 [(0, .ref (ta 73)), (1, .int (i1)), (2, .int (x4)), (3, .int (x9))] → W p l e (rmd (d + 5) 0 0) s m args below meth c H locs 0 0 (MQ below (tQi G ta post) args s 0 0 (TA ta)) (F0 m 46 ls []) := by
      intro z8 x9 hw H locs ls hT hS hl
      replace hw := hj50 z8 x9 hw
      refine lv_aload_n E.1 E.2.1 dX5_comparison_46 rfl (lv_at hl 0 rfl) ?_
      refine tw_callVv E hK hT hS (As := []) (rest := []) (met_next l G ta (d + 1) hw) (cwV 0 E.2.2.2.2 (lw_V q2055 q2057 qs59 q128 q2058) rfl rfl rfl hd_next (rm_ok (by omega) (by decide))) rfl rfl hl.1 (Nat.le_of_ble_eq_true rfl) dX5_comparison_47 (fun z10 H locs hw hT hS => ?_)
      refine lv_aload_n E.1 E.2.1 dX5_comparison_50 rfl (lv_at hl 0 rfl) ?_
      refine lv_iconst (v := nI 0) E.1 E.2.1 dX5_comparison_51 rfl ?_
      refine lv_sipush (v := nI 999) E.1 E.2.1 dX5_comparison_52 rfl ?_
      refine tw_callVi E hK hT hS (As := [.int (nI 0), .int (nI 999)]) (rest := []) (met_numberTold l G ta (d) hw) (cwV 2 E.2.2.2.2 (lw_V q2175 q2177 qs76 q128 q2178) rfl rfl rfl hd_numberTold (rm_ok (by omega) (by decide))) rfl rfl hl.1 (Nat.le_of_ble_eq_true rfl) dX5_comparison_55 (fun r12 z11 H locs hw hT hS => ?_)
      refine lv_istore (lv' := [(4, .int (r12)), (0, .ref (ta 73)), (1, .int (i1)), (2, .int (x4)), (3, .int (x9))]) E.1 E.2.1 dX5_comparison_58 hl (Nat.le_of_ble_eq_true rfl) rfl (fun ls hl => ?_)
      refine lv_aload_n E.1 E.2.1 dX5_comparison_60 rfl (lv_at hl 1 rfl) ?_
      refine tw_get E hK hT 48 (Nat.le_of_ble_eq_true rfl) q1858 rfl (v := .int (sx z11 48)) rfl dX5_comparison_61 ?_
      refine lv_if_le (tgt := 69) E.1 E.2.1 dX5_comparison_64 (by decide) (fun c13 => ?_) (fun c13 => ?_)
      · replace hw := hw.1 (c13)
        refine lv_iconst (v := nI 0) E.1 E.2.1 dX5_comparison_69 rfl ?_
        refine lv_istore (lv' := [(5, .int (nI 0)), (4, .int (r12)), (0, .ref (ta 73)), (1, .int (i1)), (2, .int (x4)), (3, .int (x9))]) E.1 E.2.1 dX5_comparison_70 hl (Nat.le_of_ble_eq_true rfl) rfl (fun ls hl => ?_)
        obtain ⟨I14, ⟨n20, hi47⟩, hb46⟩ := hw
        have L18 : ∀ (n15 : Nat) (z16 : TS) (x19 : Int32), I14 n15 z16 x19 → ∀ (H : Heap) (locs : List Loc) (ls : Array Slot), TW G ta z16 H → va_S (TA ta) s.heap H locs → lv_has ls 6 [(0, .ref (ta 73)), (1, .int (i1)), (2, .int (x4)), (3, .int (x9)), (4, .int (r12)), (5, .int (x19))] → W p l e (rmd (d + 5) 0 0) s m args below meth c H locs 0 0 (MQ below (tQi G ta post) args s 0 0 (TA ta)) (F0 m 72 ls []) := by
          intro n15
          induction n15 using Nat.strongRecOn with
          | _ n15 ih17 =>
            intro z16 x19 hw H locs ls hT hS hl
            replace hw := hb46 n15 z16 x19 hw
            obtain ⟨J21, hj45, hw⟩ := hw
            have jh22 : ∀ (z23 : TS) (x24 : Int32), J21 z23 x24 → ∀ (H : Heap) (locs : List Loc) (ls : Array Slot), TW G ta z23 H → va_S (TA ta) s.heap H locs → lv_has ls 6 [(0, .ref (ta 73)), (1, .int (i1)), (2, .int (x4)), (3, .int (x9)), (4, .int (r12)), (5, .int (x24))] → W p l e (rmd (d + 5) 0 0) s m args below meth c H locs 0 0 (MQ below (tQi G ta post) args s 0 0 (TA ta)) (F0 m 121 ls []) := by
              intro z23 x24 hw H locs ls hT hS hl
              replace hw := hj45 z23 x24 hw
              refine lv_iload E.1 E.2.1 dX5_comparison_121 (lv_at hl 5 rfl) ?_
              refine lv_bipush (v := nI 6) E.1 E.2.1 dX5_comparison_123 rfl ?_
              refine lv_icmp_ne (tgt := 136) E.1 E.2.1 dX5_comparison_125 (by decide) (fun c25 => ?_) (fun c25 => ?_)
              · replace hw := hw.1 (c25)
                obtain ⟨J26, hj36, hw⟩ := hw
                have jh27 : ∀ (z28 : TS), J26 z28  → ∀ (H : Heap) (locs : List Loc) (ls : Array Slot), TW G ta z28 H → va_S (TA ta) s.heap H locs → lv_has ls 6 [(0, .ref (ta 73)), (1, .int (i1)), (3, .int (x9)), (4, .int (r12)), (5, .int (x24))] → W p l e (rmd (d + 5) 0 0) s m args below meth c H locs 0 0 (MQ below (tQi G ta post) args s 0 0 (TA ta)) (F0 m 180 ls []) := by
                  intro z28 hw H locs ls hT hS hl
                  replace hw := hj36 z28 hw
                  refine lv_aload_n E.1 E.2.1 dX5_comparison_180 rfl (lv_at hl 0 rfl) ?_
                  refine lv_iload_n E.1 E.2.1 dX5_comparison_181 rfl (lv_at hl 1 rfl) ?_
                  refine lv_iload_n E.1 E.2.1 dX5_comparison_182 rfl (lv_at hl 2 rfl) ?_
                  refine lv_iload E.1 E.2.1 dX5_comparison_183 (lv_at hl 3 rfl) ?_
                  refine lv_iload E.1 E.2.1 dX5_comparison_185 (lv_at hl 4 rfl) ?_
                  refine tw_callVi E hK hT hS (As := [.int (i1), .int (x9), .int (r12), .int (x24)]) (rest := []) (met_newCond l G ta (d + 4) hw) (cwV 4 E.2.2.2.2 (lw_V q2235 q2237 qs91 q128 q2238) rfl rfl rfl hd_newCond (rm_ok (by omega) (by decide))) rfl rfl hl.1 (Nat.le_of_ble_eq_true rfl) dX5_comparison_187 (fun r30 z29 H locs hw hT hS => ?_)
                  exact tw_ireti E hr hlocks hT hS hw dX5_comparison_190
                refine lv_iload E.1 E.2.1 dX5_comparison_136 (lv_at hl 5 rfl) ?_
                refine lv_aload_n E.1 E.2.1 dX5_comparison_138 rfl (lv_at hl 0 rfl) ?_
                refine tw_get E hK hT 59 (Nat.le_of_ble_eq_true rfl) q1869 rfl (v := .int (sx z23 59)) rfl dX5_comparison_139 ?_
                refine lv_icmp_ne (tgt := 180) E.1 E.2.1 dX5_comparison_142 (by decide) (fun c31 => ?_) (fun c31 => ?_)
                · replace hw := hw.1 (c31)
                  exact jh27 _ hw _ _ _ hT hS (lv_sub hl [0, 1, 3, 4, 5] rfl)
                · replace hw := hw.2 (c31)
                  refine lv_aload_n E.1 E.2.1 dX5_comparison_145 rfl (lv_at hl 0 rfl) ?_
                  refine tw_get E hK hT 56 (Nat.le_of_ble_eq_true rfl) q1866 rfl (v := .ref (ta 56)) rfl dX5_comparison_146 ?_
                  refine lv_iload E.1 E.2.1 dX5_comparison_149 (lv_at hl 5 rfl) ?_
                  refine lv_iload_n E.1 E.2.1 dX5_comparison_151 rfl (lv_at hl 1 rfl) ?_
                  obtain ⟨hin, hw⟩ := hw
                  refine tw_iast E hK hT hS 56 rfl hin dX5_comparison_152 (fun H locs hT hS => ?_)
                  obtain ⟨z32, ez32⟩ : ∃ y, y = uf z23 56 x24.toNatClampNeg i1 := ⟨_, rfl⟩
                  rw [← ez32] at hT
                  replace hw := hw z32 ez32
                  refine lv_aload_n E.1 E.2.1 dX5_comparison_153 rfl (lv_at hl 0 rfl) ?_
                  refine tw_get E hK hT 57 (Nat.le_of_ble_eq_true rfl) q1867 rfl (v := .ref (ta 57)) rfl dX5_comparison_154 ?_
                  refine lv_iload E.1 E.2.1 dX5_comparison_157 (lv_at hl 5 rfl) ?_
                  refine lv_iload_n E.1 E.2.1 dX5_comparison_159 rfl (lv_at hl 3 rfl) ?_
                  obtain ⟨hin, hw⟩ := hw
                  refine tw_iast E hK hT hS 57 rfl hin dX5_comparison_160 (fun H locs hT hS => ?_)
                  obtain ⟨z33, ez33⟩ : ∃ y, y = uf z32 57 x24.toNatClampNeg x9 := ⟨_, rfl⟩
                  rw [← ez33] at hT
                  replace hw := hw z33 ez33
                  refine lv_aload_n E.1 E.2.1 dX5_comparison_161 rfl (lv_at hl 0 rfl) ?_
                  refine tw_get E hK hT 58 (Nat.le_of_ble_eq_true rfl) q1868 rfl (v := .ref (ta 58)) rfl dX5_comparison_162 ?_
                  refine lv_iload E.1 E.2.1 dX5_comparison_165 (lv_at hl 5 rfl) ?_
                  refine lv_iload E.1 E.2.1 dX5_comparison_167 (lv_at hl 4 rfl) ?_
                  obtain ⟨hin, hw⟩ := hw
                  refine tw_iast E hK hT hS 58 rfl hin dX5_comparison_169 (fun H locs hT hS => ?_)
                  obtain ⟨z34, ez34⟩ : ∃ y, y = uf z33 58 x24.toNatClampNeg r12 := ⟨_, rfl⟩
                  rw [← ez34] at hT
                  replace hw := hw z34 ez34
                  refine lv_aload_n E.1 E.2.1 dX5_comparison_170 rfl (lv_at hl 0 rfl) ?_
                  refine lv_dup E.1 E.2.1 dX5_comparison_171 rfl ?_
                  refine tw_get E hK hT 59 (Nat.le_of_ble_eq_true rfl) q1869 rfl (v := .int (sx z34 59)) rfl dX5_comparison_172 ?_
                  refine lv_iconst (v := nI 1) E.1 E.2.1 dX5_comparison_175 rfl ?_
                  refine lv_iadd E.1 E.2.1 dX5_comparison_176 ?_
                  refine tw_puti E hK hT hS 59 (Nat.le_of_ble_eq_true rfl) q1869 rfl rfl rfl rfl dX5_comparison_177 (fun H locs hT hS => ?_)
                  obtain ⟨z35, ez35⟩ : ∃ y, y = ux z34 59 ((sx z34 59) + (nI 1)) := ⟨_, rfl⟩
                  rw [← ez35] at hT
                  replace hw := hw z35 ez35
                  exact jh27 _ hw _ _ _ hT hS (lv_sub hl [0, 1, 3, 4, 5] rfl)
              · replace hw := hw.2 (c25)
                refine lv_aload_n E.1 E.2.1 dX5_comparison_128 rfl (lv_at hl 0 rfl) ?_
                refine lv_iconst (v := nI 4) E.1 E.2.1 dX5_comparison_129 rfl ?_
                refine lv_iload_n E.1 E.2.1 dX5_comparison_130 rfl (lv_at hl 2 rfl) ?_
                refine tw_callVv E hK hT hS (As := [.int (nI 4), .int (x4)]) (rest := []) (met_wrongAt l G ta (d + 4) hw) (cwV 2 E.2.2.2.2 (lw_V q2117 q2119 qs67 q128 q2120) rfl rfl rfl hd_wrongAt (rm_ok (by omega) (by decide))) rfl rfl hl.1 (Nat.le_of_ble_eq_true rfl) dX5_comparison_131 (fun z37 H locs hw hT hS => ?_)
                refine lv_iconst (v := nI 0) E.1 E.2.1 dX5_comparison_134 rfl ?_
                exact tw_ireti E hr hlocks hT hS hw dX5_comparison_135
            refine lv_iload E.1 E.2.1 dX5_comparison_72 (lv_at hl 5 rfl) ?_
            refine lv_aload_n E.1 E.2.1 dX5_comparison_74 rfl (lv_at hl 0 rfl) ?_
            refine tw_get E hK hT 59 (Nat.le_of_ble_eq_true rfl) q1869 rfl (v := .int (sx z16 59)) rfl dX5_comparison_75 ?_
            refine lv_icmp_ge (tgt := 121) E.1 E.2.1 dX5_comparison_78 (by decide) (fun c38 => ?_) (fun c38 => ?_)
            · replace hw := hw.1 (c38)
              exact jh22 _ _ hw _ _ _ hT hS (lv_sub hl [0, 1, 2, 3, 4, 5] rfl)
            · replace hw := hw.2 (c38)
              refine lv_aload_n E.1 E.2.1 dX5_comparison_81 rfl (lv_at hl 0 rfl) ?_
              refine tw_get E hK hT 56 (Nat.le_of_ble_eq_true rfl) q1866 rfl (v := .ref (ta 56)) rfl dX5_comparison_82 ?_
              refine lv_iload E.1 E.2.1 dX5_comparison_85 (lv_at hl 5 rfl) ?_
              obtain ⟨hin, hw⟩ := hw
              refine tw_iald E hK hT 56 rfl hin dX5_comparison_87 ?_
              refine lv_iload_n E.1 E.2.1 dX5_comparison_88 rfl (lv_at hl 1 rfl) ?_
              refine lv_icmp_ne (tgt := 115) E.1 E.2.1 dX5_comparison_89 (by decide) (fun c39 => ?_) (fun c39 => ?_)
              · replace hw := hw.1 (c39)
                refine lv_iinc (k := 5) (v := x19 + nI 1) (lv' := [(5, .int (x19 + nI 1)), (0, .ref (ta 73)), (1, .int (i1)), (2, .int (x4)), (3, .int (x9)), (4, .int (r12))]) E.1 E.2.1 dX5_comparison_115 hl rfl rfl (Nat.le_of_ble_eq_true rfl) rfl (fun ls hl => ?_)
                refine lv_goto (tgt := 72) E.1 E.2.1 dX5_comparison_118 (by decide) ?_
                obtain ⟨n40, hnn40, hin40⟩ := hw
                exact ih17 n40 hnn40 _ _ hin40 _ _ _ hT hS (lv_sub hl [1, 2, 3, 4, 5, 0] rfl)
              · replace hw := hw.2 (c39)
                refine lv_aload_n E.1 E.2.1 dX5_comparison_92 rfl (lv_at hl 0 rfl) ?_
                refine tw_get E hK hT 57 (Nat.le_of_ble_eq_true rfl) q1867 rfl (v := .ref (ta 57)) rfl dX5_comparison_93 ?_
                refine lv_iload E.1 E.2.1 dX5_comparison_96 (lv_at hl 5 rfl) ?_
                obtain ⟨hin, hw⟩ := hw
                refine tw_iald E hK hT 57 rfl hin dX5_comparison_98 ?_
                refine lv_iload_n E.1 E.2.1 dX5_comparison_99 rfl (lv_at hl 3 rfl) ?_
                refine lv_icmp_ne (tgt := 115) E.1 E.2.1 dX5_comparison_100 (by decide) (fun c41 => ?_) (fun c41 => ?_)
                · replace hw := hw.1 (c41)
                  refine lv_iinc (k := 5) (v := x19 + nI 1) (lv' := [(5, .int (x19 + nI 1)), (0, .ref (ta 73)), (1, .int (i1)), (2, .int (x4)), (3, .int (x9)), (4, .int (r12))]) E.1 E.2.1 dX5_comparison_115 hl rfl rfl (Nat.le_of_ble_eq_true rfl) rfl (fun ls hl => ?_)
                  refine lv_goto (tgt := 72) E.1 E.2.1 dX5_comparison_118 (by decide) ?_
                  obtain ⟨n42, hnn42, hin42⟩ := hw
                  exact ih17 n42 hnn42 _ _ hin42 _ _ _ hT hS (lv_sub hl [1, 2, 3, 4, 5, 0] rfl)
                · replace hw := hw.2 (c41)
                  refine lv_aload_n E.1 E.2.1 dX5_comparison_103 rfl (lv_at hl 0 rfl) ?_
                  refine tw_get E hK hT 58 (Nat.le_of_ble_eq_true rfl) q1868 rfl (v := .ref (ta 58)) rfl dX5_comparison_104 ?_
                  refine lv_iload E.1 E.2.1 dX5_comparison_107 (lv_at hl 5 rfl) ?_
                  obtain ⟨hin, hw⟩ := hw
                  refine tw_iald E hK hT 58 rfl hin dX5_comparison_109 ?_
                  refine lv_iload E.1 E.2.1 dX5_comparison_110 (lv_at hl 4 rfl) ?_
                  refine lv_icmp_eq (tgt := 121) E.1 E.2.1 dX5_comparison_112 (by decide) (fun c43 => ?_) (fun c43 => ?_)
                  · replace hw := hw.1 (c43)
                    exact jh22 _ _ hw _ _ _ hT hS (lv_sub hl [0, 1, 2, 3, 4, 5] rfl)
                  · replace hw := hw.2 (c43)
                    refine lv_iinc (k := 5) (v := x19 + nI 1) (lv' := [(5, .int (x19 + nI 1)), (0, .ref (ta 73)), (1, .int (i1)), (2, .int (x4)), (3, .int (x9)), (4, .int (r12))]) E.1 E.2.1 dX5_comparison_115 hl rfl rfl (Nat.le_of_ble_eq_true rfl) rfl (fun ls hl => ?_)
                    refine lv_goto (tgt := 72) E.1 E.2.1 dX5_comparison_118 (by decide) ?_
                    obtain ⟨n44, hnn44, hin44⟩ := hw
                    exact ih17 n44 hnn44 _ _ hin44 _ _ _ hT hS (lv_sub hl [1, 2, 3, 4, 5, 0] rfl)
        exact L18 n20 _ _ hi47 _ _ _ hT hS (lv_sub hl [2, 3, 4, 5, 1, 0] rfl)
      · replace hw := hw.2 (c13)
        refine lv_iconst (v := nI 0) E.1 E.2.1 dX5_comparison_67 rfl ?_
        exact tw_ireti E hr hlocks hT hS hw dX5_comparison_68
    refine lv_istore_n (lv' := [(3, .int (x5)), (0, .ref (ta 73)), (1, .int (i1)), (2, .int (x4))]) E.1 E.2.1 dX5_comparison_36 rfl hl (Nat.le_of_ble_eq_true rfl) rfl (fun ls hl => ?_)
    refine lv_iload_n E.1 E.2.1 dX5_comparison_37 rfl (lv_at hl 0 rfl) ?_
    refine lv_if_ge (tgt := 46) E.1 E.2.1 dX5_comparison_38 (by decide) (fun c48 => ?_) (fun c48 => ?_)
    · replace hw := hw.1 (c48)
      exact jh7 _ _ hw _ _ _ hT hS (lv_sub hl [1, 2, 3, 0] rfl)
    · replace hw := hw.2 (c48)
      refine lv_aload_n E.1 E.2.1 dX5_comparison_41 rfl (lv_at hl 1 rfl) ?_
      refine lv_iconst (v := nI 1) E.1 E.2.1 dX5_comparison_42 rfl ?_
      refine tw_callVv E hK hT hS (As := [.int (nI 1)]) (rest := []) (met_wrong l G ta (d + 3) hw) (cwV 1 E.2.2.2.2 (lw_V q2113 q2115 qs66 q128 q2116) rfl rfl rfl hd_wrong (rm_ok (by omega) (by decide))) rfl rfl hl.1 (Nat.le_of_ble_eq_true rfl) dX5_comparison_43 (fun z49 H locs hw hT hS => ?_)
      exact jh7 _ _ hw _ _ _ hT hS (lv_sub hl [1, 2, 3, 0] rfl)
  refine lv_aload_n E.1 E.2.1 dX5_comparison_0 rfl (lv_at hl 0 rfl) ?_
  refine tw_get E hK hT 43 (Nat.le_of_ble_eq_true rfl) q1853 rfl (v := .int (sx z0 43)) rfl dX5_comparison_1 ?_
  refine lv_topi (fun x51 ex51 => ?_)
  replace hw := hw x51 ex51
  refine lv_istore_n (lv' := [(2, .int (x51)), (0, .ref (ta 73)), (1, .int (i1))]) E.1 E.2.1 dX5_comparison_4 rfl hl (Nat.le_of_ble_eq_true rfl) rfl (fun ls hl => ?_)
  refine lv_aload_n E.1 E.2.1 dX5_comparison_5 rfl (lv_at hl 1 rfl) ?_
  refine tw_callVv E hK hT hS (As := []) (rest := []) (met_next l G ta (d + 1) hw) (cwV 0 E.2.2.2.2 (lw_V q2055 q2057 qs59 q128 q2058) rfl rfl rfl hd_next (rm_ok (by omega) (by decide))) rfl rfl hl.1 (Nat.le_of_ble_eq_true rfl) dX5_comparison_6 (fun z52 H locs hw hT hS => ?_)
  refine lv_aload_n E.1 E.2.1 dX5_comparison_9 rfl (lv_at hl 1 rfl) ?_
  refine lv_bipush (v := nI 60) E.1 E.2.1 dX5_comparison_10 rfl ?_
  refine tw_callVz E hK hT hS (As := [.int (nI 60)]) (rest := []) (met_isSign l G ta (d + 4) hw) (cwV 1 E.2.2.2.2 (lw_V q2159 q2161 qs72 q128 q2162) rfl rfl rfl hd_isSign (rm_ok (by omega) (by decide))) rfl rfl hl.1 (Nat.le_of_ble_eq_true rfl) dX5_comparison_12 (fun b54 z53 H locs hw hT hS => ?_)
  refine lv_if_eq (tgt := 22) E.1 E.2.1 dX5_comparison_15 (by decide) (fun c55 => ?_) (fun c55 => ?_)
  · replace hw := hw.1 (bi_z c55)
    refine lv_aload_n E.1 E.2.1 dX5_comparison_22 rfl (lv_at hl 1 rfl) ?_
    refine lv_bipush (v := nI 62) E.1 E.2.1 dX5_comparison_23 rfl ?_
    refine tw_callVz E hK hT hS (As := [.int (nI 62)]) (rest := []) (met_isSign l G ta (d + 4) hw) (cwV 1 E.2.2.2.2 (lw_V q2159 q2161 qs72 q128 q2162) rfl rfl rfl hd_isSign (rm_ok (by omega) (by decide))) rfl rfl hl.1 (Nat.le_of_ble_eq_true rfl) dX5_comparison_25 (fun b57 z56 H locs hw hT hS => ?_)
    refine lv_if_eq (tgt := 35) E.1 E.2.1 dX5_comparison_28 (by decide) (fun c58 => ?_) (fun c58 => ?_)
    · replace hw := hw.1 (bi_z c58)
      refine lv_iconst (v := (-1)) E.1 E.2.1 dX5_comparison_35 rfl ?_
      exact jh2 _ _ _ hw _ _ _ hT hS (lv_sub hl [1, 2, 0] rfl)
    · replace hw := hw.2 (bi_n c58)
      refine lv_iconst (v := nI 1) E.1 E.2.1 dX5_comparison_31 rfl ?_
      refine lv_goto (tgt := 36) E.1 E.2.1 dX5_comparison_32 (by decide) ?_
      exact jh2 _ _ _ hw _ _ _ hT hS (lv_sub hl [1, 2, 0] rfl)
  · replace hw := hw.2 (bi_n c55)
    refine lv_iconst (v := nI 0) E.1 E.2.1 dX5_comparison_18 rfl ?_
    refine lv_goto (tgt := 36) E.1 E.2.1 dX5_comparison_19 (by decide) ?_
    exact jh2 _ _ _ hw _ _ _ hT hS (lv_sub hl [1, 2, 0] rfl)
/-- mustSign(I)V -/
def wp_mustSign (post : TS → Prop) (z0 : TS) (i1 : Int32) : Prop := ∃ J1 : TS → Prop, (∀ (z3 : TS), J1 z3  → wp_next (fun z4 => post z4) z3) ∧ ((¬ (sx z0 48) = 0 → J1 z0 ) ∧ ((sx z0 48) = 0 → wp_isSign (fun b7 z6 => (b7 = true → J1 z6 ) ∧ (b7 = false → wp_wrong (fun z9 => J1 z9 ) z6 (nI 1))) z0 i1))
theorem hd_mustSign : yX5_mustSign.cls = RX5 ∧ yX5_mustSign.cls ≠ "java/lang/invoke/MethodHandle" ∧ yX5_mustSign.cls ≠ "java/lang/invoke/VarHandle" ∧ (parseMethodDescriptor yX5_mustSign.desc).map (fun d => d.parameters.length) = some 1 := by decide +kernel
set_option maxHeartbeats 4000000 in
theorem met_mustSign (l : Launch) (G : GP) (ta : Nat → Nat) (d : Nat) {post : TS → Prop} {z0 : TS} {i1 : Int32} (hw : wp_mustSign post z0 i1) : Met l yX5_mustSign (ws_ yX5_mustSign cX5_mustSign 2 none) (rmd (d + 4) 0 0) (tPc G ta z0 [.ref (ta 73), .int (i1)]) (tQv G ta post) 0 0 (TA ta) := by
  unfold wp_mustSign at hw
  refine tw_met (by decide) rfl (Nat.le_of_ble_eq_true rfl) ?_
  intro p e s m args below meth c ls E hr hlocks hK hT hS hl
  replace hl : lv_has ls 2 [(0, .ref (ta 73)), (1, .int (i1))] := hl
  obtain ⟨J1, hj10, hw⟩ := hw
  have jh2 : ∀ (z3 : TS), J1 z3  → ∀ (H : Heap) (locs : List Loc) (ls : Array Slot), TW G ta z3 H → va_S (TA ta) s.heap H locs → lv_has ls 2 [(0, .ref (ta 73))] → W p l e (rmd (d + 4) 0 0) s m args below meth c H locs 0 0 (MQ below (tQv G ta post) args s 0 0 (TA ta)) (F0 m 20 ls []) := by
    intro z3 hw H locs ls hT hS hl
    replace hw := hj10 z3 hw
    refine lv_aload_n E.1 E.2.1 dX5_mustSign_20 rfl (lv_at hl 0 rfl) ?_
    refine tw_callVv E hK hT hS (As := []) (rest := []) (met_next l G ta (d) hw) (cwV 0 E.2.2.2.2 (lw_V q2055 q2057 qs59 q128 q2058) rfl rfl rfl hd_next (rm_ok (by omega) (by decide))) rfl rfl hl.1 (Nat.le_of_ble_eq_true rfl) dX5_mustSign_21 (fun z4 H locs hw hT hS => ?_)
    exact tw_vret E hr hlocks hT hS hw dX5_mustSign_24
  refine lv_aload_n E.1 E.2.1 dX5_mustSign_0 rfl (lv_at hl 0 rfl) ?_
  refine tw_get E hK hT 48 (Nat.le_of_ble_eq_true rfl) q1858 rfl (v := .int (sx z0 48)) rfl dX5_mustSign_1 ?_
  refine lv_if_ne (tgt := 20) E.1 E.2.1 dX5_mustSign_4 (by decide) (fun c5 => ?_) (fun c5 => ?_)
  · replace hw := hw.1 (c5)
    exact jh2 _ hw _ _ _ hT hS (lv_sub hl [0] rfl)
  · replace hw := hw.2 (c5)
    refine lv_aload_n E.1 E.2.1 dX5_mustSign_7 rfl (lv_at hl 0 rfl) ?_
    refine lv_iload_n E.1 E.2.1 dX5_mustSign_8 rfl (lv_at hl 1 rfl) ?_
    refine tw_callVz E hK hT hS (As := [.int (i1)]) (rest := []) (met_isSign l G ta (d + 3) hw) (cwV 1 E.2.2.2.2 (lw_V q2159 q2161 qs72 q128 q2162) rfl rfl rfl hd_isSign (rm_ok (by omega) (by decide))) rfl rfl hl.1 (Nat.le_of_ble_eq_true rfl) dX5_mustSign_9 (fun b7 z6 H locs hw hT hS => ?_)
    refine lv_if_ne (tgt := 20) E.1 E.2.1 dX5_mustSign_12 (by decide) (fun c8 => ?_) (fun c8 => ?_)
    · replace hw := hw.1 (bi_n c8)
      exact jh2 _ hw _ _ _ hT hS (lv_sub hl [0] rfl)
    · replace hw := hw.2 (bi_z c8)
      refine lv_aload_n E.1 E.2.1 dX5_mustSign_15 rfl (lv_at hl 0 rfl) ?_
      refine lv_iconst (v := nI 1) E.1 E.2.1 dX5_mustSign_16 rfl ?_
      refine tw_callVv E hK hT hS (As := [.int (nI 1)]) (rest := []) (met_wrong l G ta (d + 2) hw) (cwV 1 E.2.2.2.2 (lw_V q2113 q2115 qs66 q128 q2116) rfl rfl rfl hd_wrong (rm_ok (by omega) (by decide))) rfl rfl hl.1 (Nat.le_of_ble_eq_true rfl) dX5_mustSign_17 (fun z9 H locs hw hT hS => ?_)
      exact jh2 _ hw _ _ _ hT hS (lv_sub hl [0] rfl)
/-- opens()V -/
def wp_opens (post : TS → Prop) (z0 : TS) : Prop := ∃ J1 : TS → Prop, (∀ (z3 : TS), J1 z3  → ∀ z4, z4 = ux z3 60 ((sx z3 60) + (nI 1)) → wp_next (fun z5 => post z5) z4) ∧ ((¬ (sx z0 48) = 0 → J1 z0 ) ∧ ((sx z0 48) = 0 → (¬ (sx z0 60) = (nI 9) → J1 z0 ) ∧ ((sx z0 60) = (nI 9) → wp_wrong (fun z8 => J1 z8 ) z0 (nI 4))))
theorem hd_opens : yX5_opens.cls = RX5 ∧ yX5_opens.cls ≠ "java/lang/invoke/MethodHandle" ∧ yX5_opens.cls ≠ "java/lang/invoke/VarHandle" ∧ (parseMethodDescriptor yX5_opens.desc).map (fun d => d.parameters.length) = some 0 := by decide +kernel
set_option maxHeartbeats 4000000 in
theorem met_opens (l : Launch) (G : GP) (ta : Nat → Nat) (d : Nat) {post : TS → Prop} {z0 : TS} (hw : wp_opens post z0) : Met l yX5_opens (ws_ yX5_opens cX5_opens 1 none) (rmd (d + 4) 0 0) (tPc G ta z0 [.ref (ta 73)]) (tQv G ta post) 0 0 (TA ta) := by
  unfold wp_opens at hw
  refine tw_met (by decide) rfl (Nat.le_of_ble_eq_true rfl) ?_
  intro p e s m args below meth c ls E hr hlocks hK hT hS hl
  replace hl : lv_has ls 1 [(0, .ref (ta 73))] := hl
  obtain ⟨J1, hj9, hw⟩ := hw
  have jh2 : ∀ (z3 : TS), J1 z3  → ∀ (H : Heap) (locs : List Loc) (ls : Array Slot), TW G ta z3 H → va_S (TA ta) s.heap H locs → lv_has ls 1 [(0, .ref (ta 73))] → W p l e (rmd (d + 4) 0 0) s m args below meth c H locs 0 0 (MQ below (tQv G ta post) args s 0 0 (TA ta)) (F0 m 21 ls []) := by
    intro z3 hw H locs ls hT hS hl
    replace hw := hj9 z3 hw
    refine lv_aload_n E.1 E.2.1 dX5_opens_21 rfl (lv_at hl 0 rfl) ?_
    refine lv_dup E.1 E.2.1 dX5_opens_22 rfl ?_
    refine tw_get E hK hT 60 (Nat.le_of_ble_eq_true rfl) q1870 rfl (v := .int (sx z3 60)) rfl dX5_opens_23 ?_
    refine lv_iconst (v := nI 1) E.1 E.2.1 dX5_opens_26 rfl ?_
    refine lv_iadd E.1 E.2.1 dX5_opens_27 ?_
    refine tw_puti E hK hT hS 60 (Nat.le_of_ble_eq_true rfl) q1870 rfl rfl rfl rfl dX5_opens_28 (fun H locs hT hS => ?_)
    obtain ⟨z4, ez4⟩ : ∃ y, y = ux z3 60 ((sx z3 60) + (nI 1)) := ⟨_, rfl⟩
    rw [← ez4] at hT
    replace hw := hw z4 ez4
    refine lv_aload_n E.1 E.2.1 dX5_opens_31 rfl (lv_at hl 0 rfl) ?_
    refine tw_callVv E hK hT hS (As := []) (rest := []) (met_next l G ta (d) hw) (cwV 0 E.2.2.2.2 (lw_V q2055 q2057 qs59 q128 q2058) rfl rfl rfl hd_next (rm_ok (by omega) (by decide))) rfl rfl hl.1 (Nat.le_of_ble_eq_true rfl) dX5_opens_32 (fun z5 H locs hw hT hS => ?_)
    exact tw_vret E hr hlocks hT hS hw dX5_opens_35
  refine lv_aload_n E.1 E.2.1 dX5_opens_0 rfl (lv_at hl 0 rfl) ?_
  refine tw_get E hK hT 48 (Nat.le_of_ble_eq_true rfl) q1858 rfl (v := .int (sx z0 48)) rfl dX5_opens_1 ?_
  refine lv_if_ne (tgt := 21) E.1 E.2.1 dX5_opens_4 (by decide) (fun c6 => ?_) (fun c6 => ?_)
  · replace hw := hw.1 (c6)
    exact jh2 _ hw _ _ _ hT hS (lv_sub hl [0] rfl)
  · replace hw := hw.2 (c6)
    refine lv_aload_n E.1 E.2.1 dX5_opens_7 rfl (lv_at hl 0 rfl) ?_
    refine tw_get E hK hT 60 (Nat.le_of_ble_eq_true rfl) q1870 rfl (v := .int (sx z0 60)) rfl dX5_opens_8 ?_
    refine lv_bipush (v := nI 9) E.1 E.2.1 dX5_opens_11 rfl ?_
    refine lv_icmp_ne (tgt := 21) E.1 E.2.1 dX5_opens_13 (by decide) (fun c7 => ?_) (fun c7 => ?_)
    · replace hw := hw.1 (c7)
      exact jh2 _ hw _ _ _ hT hS (lv_sub hl [0] rfl)
    · replace hw := hw.2 (c7)
      refine lv_aload_n E.1 E.2.1 dX5_opens_16 rfl (lv_at hl 0 rfl) ?_
      refine lv_iconst (v := nI 4) E.1 E.2.1 dX5_opens_17 rfl ?_
      refine tw_callVv E hK hT hS (As := [.int (nI 4)]) (rest := []) (met_wrong l G ta (d + 2) hw) (cwV 1 E.2.2.2.2 (lw_V q2113 q2115 qs66 q128 q2116) rfl rfl rfl hd_wrong (rm_ok (by omega) (by decide))) rfl rfl hl.1 (Nat.le_of_ble_eq_true rfl) dX5_opens_18 (fun z8 H locs hw hT hS => ?_)
      exact jh2 _ hw _ _ _ hT hS (lv_sub hl [0] rfl)
/-- spanCond(I)I -/
def wp_spanCond (post : Int32 → TS → Prop) (z0 : TS) (i1 : Int32) : Prop := ∃ J1 : TS → Bool → Prop, (∀ (z3 : TS) (b4 : Bool), J1 z3 b4 → wp_span (fun z5 => ((sx z5 48) ≤ 0 → ∃ I7 : Nat → TS → Int32 → Prop, (∃ n13, I7 n13 z5 (nI 0)) ∧ ∀ (n8 : Nat) (z9 : TS) (x12 : Int32), I7 n8 z9 x12 → ∃ J14 : TS → Int32 → Prop, (∀ (z16 : TS) (x17 : Int32), J14 z16 x17 → (¬ x17 = (nI 6) → ∃ J19 : TS → Prop, (∀ (z21 : TS), J19 z21  → wp_newCond (fun r23 z22 => post r23 z22) z21 i1 (sx z21 49) (sx z21 50) x17) ∧ ((¬ x17 = (sx z16 55) → J19 z16 ) ∧ (x17 = (sx z16 55) → vp_in (x17) 6 ∧ ∀ z25, z25 = uf z16 52 x17.toNatClampNeg i1 → vp_in (x17) 6 ∧ ∀ z26, z26 = uf z25 53 x17.toNatClampNeg (sx z25 49) → vp_in (x17) 6 ∧ ∀ z27, z27 = uf z26 54 x17.toNatClampNeg (sx z26 50) → ∀ z28, z28 = ux z27 55 ((sx z27 55) + (nI 1)) → J19 z28 ))) ∧ (x17 = (nI 6) → wp_wrongAt (fun z30 => post (nI 0) z30) z16 (nI 4) (sx z16 51))) ∧ (((sx z9 55) ≤ x12 → J14 z9 x12) ∧ (¬ (sx z9 55) ≤ x12 → vp_in (x12) 6 ∧ (¬ (sf z9 52 x12.toNatClampNeg) = i1 → ∃ n33, n33 < n8 ∧ I7 n33 z9 (x12 + nI 1)) ∧ ((sf z9 52 x12.toNatClampNeg) = i1 → vp_in (x12) 6 ∧ (¬ (sf z9 53 x12.toNatClampNeg) = (sx z9 49) → ∃ n35, n35 < n8 ∧ I7 n35 z9 (x12 + nI 1)) ∧ ((sf z9 53 x12.toNatClampNeg) = (sx z9 49) → vp_in (x12) 6 ∧ ((sf z9 54 x12.toNatClampNeg) = (sx z9 50) → J14 z9 x12) ∧ (¬ (sf z9 54 x12.toNatClampNeg) = (sx z9 50) → ∃ n37, n37 < n8 ∧ I7 n37 z9 (x12 + nI 1))))))) ∧ (¬ (sx z5 48) ≤ 0 → post (nI 0) z5)) z3 b4 false) ∧ (wp_next (fun z41 => (¬ i1 = (nI 5) → J1 z41 false) ∧ (i1 = (nI 5) → J1 z41 true)) z0)
theorem hd_spanCond : yX5_spanCond.cls = RX5 ∧ yX5_spanCond.cls ≠ "java/lang/invoke/MethodHandle" ∧ yX5_spanCond.cls ≠ "java/lang/invoke/VarHandle" ∧ (parseMethodDescriptor yX5_spanCond.desc).map (fun d => d.parameters.length) = some 1 := by decide +kernel
set_option maxHeartbeats 4000000 in
theorem met_spanCond (l : Launch) (G : GP) (ta : Nat → Nat) (d : Nat) {post : Int32 → TS → Prop} {z0 : TS} {i1 : Int32} (hw : wp_spanCond post z0 i1) : Met l yX5_spanCond (ws_ yX5_spanCond cX5_spanCond 3 (some .int)) (rmd (d + 9) 0 0) (tPc G ta z0 [.ref (ta 73), .int (i1)]) (tQi G ta post) 0 0 (TA ta) := by
  unfold wp_spanCond at hw
  refine tw_met (by decide) rfl (Nat.le_of_ble_eq_true rfl) ?_
  intro p e s m args below meth c ls E hr hlocks hK hT hS hl
  replace hl : lv_has ls 3 [(0, .ref (ta 73)), (1, .int (i1))] := hl
  obtain ⟨J1, hj43, hw⟩ := hw
  have jh2 : ∀ (z3 : TS) (b4 : Bool), J1 z3 b4 → ∀ (H : Heap) (locs : List Loc) (ls : Array Slot), TW G ta z3 H → va_S (TA ta) s.heap H locs → lv_has ls 3 [(0, .ref (ta 73)), (1, .int (i1))] → W p l e (rmd (d + 9) 0 0) s m args below meth c H locs 0 0 (MQ below (tQi G ta post) args s 0 0 (TA ta)) (F0 m 15 ls [.int (bi b4), .ref (ta 73)]) := by
    intro z3 b4 hw H locs ls hT hS hl
    replace hw := hj43 z3 b4 hw
    refine lv_iconst (v := nI 0) E.1 E.2.1 dX5_spanCond_15 rfl ?_
    refine tw_callVv E hK hT hS (As := [.int (bi b4), .int (nI 0)]) (rest := []) (met_span l G ta (d) hw) (cwV 2 E.2.2.2.2 (lw_V q2152 q2154 qs71 q128 q2155) rfl rfl rfl hd_span (rm_ok (by omega) (by decide))) rfl rfl hl.1 (Nat.le_of_ble_eq_true rfl) dX5_spanCond_16 (fun z5 H locs hw hT hS => ?_)
    refine lv_aload_n E.1 E.2.1 dX5_spanCond_19 rfl (lv_at hl 0 rfl) ?_
    refine tw_get E hK hT 48 (Nat.le_of_ble_eq_true rfl) q1858 rfl (v := .int (sx z5 48)) rfl dX5_spanCond_20 ?_
    refine lv_if_le (tgt := 28) E.1 E.2.1 dX5_spanCond_23 (by decide) (fun c6 => ?_) (fun c6 => ?_)
    · replace hw := hw.1 (c6)
      refine lv_iconst (v := nI 0) E.1 E.2.1 dX5_spanCond_28 rfl ?_
      refine lv_istore_n (lv' := [(2, .int (nI 0)), (0, .ref (ta 73)), (1, .int (i1))]) E.1 E.2.1 dX5_spanCond_29 rfl hl (Nat.le_of_ble_eq_true rfl) rfl (fun ls hl => ?_)
      obtain ⟨I7, ⟨n13, hi40⟩, hb39⟩ := hw
      have L11 : ∀ (n8 : Nat) (z9 : TS) (x12 : Int32), I7 n8 z9 x12 → ∀ (H : Heap) (locs : List Loc) (ls : Array Slot), TW G ta z9 H → va_S (TA ta) s.heap H locs → lv_has ls 3 [(0, .ref (ta 73)), (1, .int (i1)), (2, .int (x12))] → W p l e (rmd (d + 9) 0 0) s m args below meth c H locs 0 0 (MQ below (tQi G ta post) args s 0 0 (TA ta)) (F0 m 30 ls []) := by
        intro n8
        induction n8 using Nat.strongRecOn with
        | _ n8 ih10 =>
          intro z9 x12 hw H locs ls hT hS hl
          replace hw := hb39 n8 z9 x12 hw
          obtain ⟨J14, hj38, hw⟩ := hw
          have jh15 : ∀ (z16 : TS) (x17 : Int32), J14 z16 x17 → ∀ (H : Heap) (locs : List Loc) (ls : Array Slot), TW G ta z16 H → va_S (TA ta) s.heap H locs → lv_has ls 3 [(0, .ref (ta 73)), (1, .int (i1)), (2, .int (x17))] → W p l e (rmd (d + 9) 0 0) s m args below meth c H locs 0 0 (MQ below (tQi G ta post) args s 0 0 (TA ta)) (F0 m 80 ls []) := by
            intro z16 x17 hw H locs ls hT hS hl
            replace hw := hj38 z16 x17 hw
            refine lv_iload_n E.1 E.2.1 dX5_spanCond_80 rfl (lv_at hl 2 rfl) ?_
            refine lv_bipush (v := nI 6) E.1 E.2.1 dX5_spanCond_81 rfl ?_
            refine lv_icmp_ne (tgt := 97) E.1 E.2.1 dX5_spanCond_83 (by decide) (fun c18 => ?_) (fun c18 => ?_)
            · replace hw := hw.1 (c18)
              obtain ⟨J19, hj29, hw⟩ := hw
              have jh20 : ∀ (z21 : TS), J19 z21  → ∀ (H : Heap) (locs : List Loc) (ls : Array Slot), TW G ta z21 H → va_S (TA ta) s.heap H locs → lv_has ls 3 [(0, .ref (ta 73)), (1, .int (i1)), (2, .int (x17))] → W p l e (rmd (d + 9) 0 0) s m args below meth c H locs 0 0 (MQ below (tQi G ta post) args s 0 0 (TA ta)) (F0 m 142 ls []) := by
                intro z21 hw H locs ls hT hS hl
                replace hw := hj29 z21 hw
                refine lv_aload_n E.1 E.2.1 dX5_spanCond_142 rfl (lv_at hl 0 rfl) ?_
                refine lv_iload_n E.1 E.2.1 dX5_spanCond_143 rfl (lv_at hl 1 rfl) ?_
                refine lv_aload_n E.1 E.2.1 dX5_spanCond_144 rfl (lv_at hl 0 rfl) ?_
                refine tw_get E hK hT 49 (Nat.le_of_ble_eq_true rfl) q1859 rfl (v := .int (sx z21 49)) rfl dX5_spanCond_145 ?_
                refine lv_aload_n E.1 E.2.1 dX5_spanCond_148 rfl (lv_at hl 0 rfl) ?_
                refine tw_get E hK hT 50 (Nat.le_of_ble_eq_true rfl) q1860 rfl (v := .int (sx z21 50)) rfl dX5_spanCond_149 ?_
                refine lv_iload_n E.1 E.2.1 dX5_spanCond_152 rfl (lv_at hl 2 rfl) ?_
                refine tw_callVi E hK hT hS (As := [.int (i1), .int (sx z21 49), .int (sx z21 50), .int (x17)]) (rest := []) (met_newCond l G ta (d + 8) hw) (cwV 4 E.2.2.2.2 (lw_V q2235 q2237 qs91 q128 q2238) rfl rfl rfl hd_newCond (rm_ok (by omega) (by decide))) rfl rfl hl.1 (Nat.le_of_ble_eq_true rfl) dX5_spanCond_153 (fun r23 z22 H locs hw hT hS => ?_)
                exact tw_ireti E hr hlocks hT hS hw dX5_spanCond_156
              refine lv_iload_n E.1 E.2.1 dX5_spanCond_97 rfl (lv_at hl 2 rfl) ?_
              refine lv_aload_n E.1 E.2.1 dX5_spanCond_98 rfl (lv_at hl 0 rfl) ?_
              refine tw_get E hK hT 55 (Nat.le_of_ble_eq_true rfl) q1865 rfl (v := .int (sx z16 55)) rfl dX5_spanCond_99 ?_
              refine lv_icmp_ne (tgt := 142) E.1 E.2.1 dX5_spanCond_102 (by decide) (fun c24 => ?_) (fun c24 => ?_)
              · replace hw := hw.1 (c24)
                exact jh20 _ hw _ _ _ hT hS (lv_sub hl [0, 1, 2] rfl)
              · replace hw := hw.2 (c24)
                refine lv_aload_n E.1 E.2.1 dX5_spanCond_105 rfl (lv_at hl 0 rfl) ?_
                refine tw_get E hK hT 52 (Nat.le_of_ble_eq_true rfl) q1862 rfl (v := .ref (ta 52)) rfl dX5_spanCond_106 ?_
                refine lv_iload_n E.1 E.2.1 dX5_spanCond_109 rfl (lv_at hl 2 rfl) ?_
                refine lv_iload_n E.1 E.2.1 dX5_spanCond_110 rfl (lv_at hl 1 rfl) ?_
                obtain ⟨hin, hw⟩ := hw
                refine tw_iast E hK hT hS 52 rfl hin dX5_spanCond_111 (fun H locs hT hS => ?_)
                obtain ⟨z25, ez25⟩ : ∃ y, y = uf z16 52 x17.toNatClampNeg i1 := ⟨_, rfl⟩
                rw [← ez25] at hT
                replace hw := hw z25 ez25
                refine lv_aload_n E.1 E.2.1 dX5_spanCond_112 rfl (lv_at hl 0 rfl) ?_
                refine tw_get E hK hT 53 (Nat.le_of_ble_eq_true rfl) q1863 rfl (v := .ref (ta 53)) rfl dX5_spanCond_113 ?_
                refine lv_iload_n E.1 E.2.1 dX5_spanCond_116 rfl (lv_at hl 2 rfl) ?_
                refine lv_aload_n E.1 E.2.1 dX5_spanCond_117 rfl (lv_at hl 0 rfl) ?_
                refine tw_get E hK hT 49 (Nat.le_of_ble_eq_true rfl) q1859 rfl (v := .int (sx z25 49)) rfl dX5_spanCond_118 ?_
                obtain ⟨hin, hw⟩ := hw
                refine tw_iast E hK hT hS 53 rfl hin dX5_spanCond_121 (fun H locs hT hS => ?_)
                obtain ⟨z26, ez26⟩ : ∃ y, y = uf z25 53 x17.toNatClampNeg (sx z25 49) := ⟨_, rfl⟩
                rw [← ez26] at hT
                replace hw := hw z26 ez26
                refine lv_aload_n E.1 E.2.1 dX5_spanCond_122 rfl (lv_at hl 0 rfl) ?_
                refine tw_get E hK hT 54 (Nat.le_of_ble_eq_true rfl) q1864 rfl (v := .ref (ta 54)) rfl dX5_spanCond_123 ?_
                refine lv_iload_n E.1 E.2.1 dX5_spanCond_126 rfl (lv_at hl 2 rfl) ?_
                refine lv_aload_n E.1 E.2.1 dX5_spanCond_127 rfl (lv_at hl 0 rfl) ?_
                refine tw_get E hK hT 50 (Nat.le_of_ble_eq_true rfl) q1860 rfl (v := .int (sx z26 50)) rfl dX5_spanCond_128 ?_
                obtain ⟨hin, hw⟩ := hw
                refine tw_iast E hK hT hS 54 rfl hin dX5_spanCond_131 (fun H locs hT hS => ?_)
                obtain ⟨z27, ez27⟩ : ∃ y, y = uf z26 54 x17.toNatClampNeg (sx z26 50) := ⟨_, rfl⟩
                rw [← ez27] at hT
                replace hw := hw z27 ez27
                refine lv_aload_n E.1 E.2.1 dX5_spanCond_132 rfl (lv_at hl 0 rfl) ?_
                refine lv_dup E.1 E.2.1 dX5_spanCond_133 rfl ?_
                refine tw_get E hK hT 55 (Nat.le_of_ble_eq_true rfl) q1865 rfl (v := .int (sx z27 55)) rfl dX5_spanCond_134 ?_
                refine lv_iconst (v := nI 1) E.1 E.2.1 dX5_spanCond_137 rfl ?_
                refine lv_iadd E.1 E.2.1 dX5_spanCond_138 ?_
                refine tw_puti E hK hT hS 55 (Nat.le_of_ble_eq_true rfl) q1865 rfl rfl rfl rfl dX5_spanCond_139 (fun H locs hT hS => ?_)
                obtain ⟨z28, ez28⟩ : ∃ y, y = ux z27 55 ((sx z27 55) + (nI 1)) := ⟨_, rfl⟩
                rw [← ez28] at hT
                replace hw := hw z28 ez28
                exact jh20 _ hw _ _ _ hT hS (lv_sub hl [0, 1, 2] rfl)
            · replace hw := hw.2 (c18)
              refine lv_aload_n E.1 E.2.1 dX5_spanCond_86 rfl (lv_at hl 0 rfl) ?_
              refine lv_iconst (v := nI 4) E.1 E.2.1 dX5_spanCond_87 rfl ?_
              refine lv_aload_n E.1 E.2.1 dX5_spanCond_88 rfl (lv_at hl 0 rfl) ?_
              refine tw_get E hK hT 51 (Nat.le_of_ble_eq_true rfl) q1861 rfl (v := .int (sx z16 51)) rfl dX5_spanCond_89 ?_
              refine tw_callVv E hK hT hS (As := [.int (nI 4), .int (sx z16 51)]) (rest := []) (met_wrongAt l G ta (d + 8) hw) (cwV 2 E.2.2.2.2 (lw_V q2117 q2119 qs67 q128 q2120) rfl rfl rfl hd_wrongAt (rm_ok (by omega) (by decide))) rfl rfl hl.1 (Nat.le_of_ble_eq_true rfl) dX5_spanCond_92 (fun z30 H locs hw hT hS => ?_)
              refine lv_iconst (v := nI 0) E.1 E.2.1 dX5_spanCond_95 rfl ?_
              exact tw_ireti E hr hlocks hT hS hw dX5_spanCond_96
          refine lv_iload_n E.1 E.2.1 dX5_spanCond_30 rfl (lv_at hl 2 rfl) ?_
          refine lv_aload_n E.1 E.2.1 dX5_spanCond_31 rfl (lv_at hl 0 rfl) ?_
          refine tw_get E hK hT 55 (Nat.le_of_ble_eq_true rfl) q1865 rfl (v := .int (sx z9 55)) rfl dX5_spanCond_32 ?_
          refine lv_icmp_ge (tgt := 80) E.1 E.2.1 dX5_spanCond_35 (by decide) (fun c31 => ?_) (fun c31 => ?_)
          · replace hw := hw.1 (c31)
            exact jh15 _ _ hw _ _ _ hT hS (lv_sub hl [0, 1, 2] rfl)
          · replace hw := hw.2 (c31)
            refine lv_aload_n E.1 E.2.1 dX5_spanCond_38 rfl (lv_at hl 0 rfl) ?_
            refine tw_get E hK hT 52 (Nat.le_of_ble_eq_true rfl) q1862 rfl (v := .ref (ta 52)) rfl dX5_spanCond_39 ?_
            refine lv_iload_n E.1 E.2.1 dX5_spanCond_42 rfl (lv_at hl 2 rfl) ?_
            obtain ⟨hin, hw⟩ := hw
            refine tw_iald E hK hT 52 rfl hin dX5_spanCond_43 ?_
            refine lv_iload_n E.1 E.2.1 dX5_spanCond_44 rfl (lv_at hl 1 rfl) ?_
            refine lv_icmp_ne (tgt := 74) E.1 E.2.1 dX5_spanCond_45 (by decide) (fun c32 => ?_) (fun c32 => ?_)
            · replace hw := hw.1 (c32)
              refine lv_iinc (k := 2) (v := x12 + nI 1) (lv' := [(2, .int (x12 + nI 1)), (0, .ref (ta 73)), (1, .int (i1))]) E.1 E.2.1 dX5_spanCond_74 hl rfl rfl (Nat.le_of_ble_eq_true rfl) rfl (fun ls hl => ?_)
              refine lv_goto (tgt := 30) E.1 E.2.1 dX5_spanCond_77 (by decide) ?_
              obtain ⟨n33, hnn33, hin33⟩ := hw
              exact ih10 n33 hnn33 _ _ hin33 _ _ _ hT hS (lv_sub hl [1, 2, 0] rfl)
            · replace hw := hw.2 (c32)
              refine lv_aload_n E.1 E.2.1 dX5_spanCond_48 rfl (lv_at hl 0 rfl) ?_
              refine tw_get E hK hT 53 (Nat.le_of_ble_eq_true rfl) q1863 rfl (v := .ref (ta 53)) rfl dX5_spanCond_49 ?_
              refine lv_iload_n E.1 E.2.1 dX5_spanCond_52 rfl (lv_at hl 2 rfl) ?_
              obtain ⟨hin, hw⟩ := hw
              refine tw_iald E hK hT 53 rfl hin dX5_spanCond_53 ?_
              refine lv_aload_n E.1 E.2.1 dX5_spanCond_54 rfl (lv_at hl 0 rfl) ?_
              refine tw_get E hK hT 49 (Nat.le_of_ble_eq_true rfl) q1859 rfl (v := .int (sx z9 49)) rfl dX5_spanCond_55 ?_
              refine lv_icmp_ne (tgt := 74) E.1 E.2.1 dX5_spanCond_58 (by decide) (fun c34 => ?_) (fun c34 => ?_)
              · replace hw := hw.1 (c34)
                refine lv_iinc (k := 2) (v := x12 + nI 1) (lv' := [(2, .int (x12 + nI 1)), (0, .ref (ta 73)), (1, .int (i1))]) E.1 E.2.1 dX5_spanCond_74 hl rfl rfl (Nat.le_of_ble_eq_true rfl) rfl (fun ls hl => ?_)
                refine lv_goto (tgt := 30) E.1 E.2.1 dX5_spanCond_77 (by decide) ?_
                obtain ⟨n35, hnn35, hin35⟩ := hw
                exact ih10 n35 hnn35 _ _ hin35 _ _ _ hT hS (lv_sub hl [1, 2, 0] rfl)
              · replace hw := hw.2 (c34)
                refine lv_aload_n E.1 E.2.1 dX5_spanCond_61 rfl (lv_at hl 0 rfl) ?_
                refine tw_get E hK hT 54 (Nat.le_of_ble_eq_true rfl) q1864 rfl (v := .ref (ta 54)) rfl dX5_spanCond_62 ?_
                refine lv_iload_n E.1 E.2.1 dX5_spanCond_65 rfl (lv_at hl 2 rfl) ?_
                obtain ⟨hin, hw⟩ := hw
                refine tw_iald E hK hT 54 rfl hin dX5_spanCond_66 ?_
                refine lv_aload_n E.1 E.2.1 dX5_spanCond_67 rfl (lv_at hl 0 rfl) ?_
                refine tw_get E hK hT 50 (Nat.le_of_ble_eq_true rfl) q1860 rfl (v := .int (sx z9 50)) rfl dX5_spanCond_68 ?_
                refine lv_icmp_eq (tgt := 80) E.1 E.2.1 dX5_spanCond_71 (by decide) (fun c36 => ?_) (fun c36 => ?_)
                · replace hw := hw.1 (c36)
                  exact jh15 _ _ hw _ _ _ hT hS (lv_sub hl [0, 1, 2] rfl)
                · replace hw := hw.2 (c36)
                  refine lv_iinc (k := 2) (v := x12 + nI 1) (lv' := [(2, .int (x12 + nI 1)), (0, .ref (ta 73)), (1, .int (i1))]) E.1 E.2.1 dX5_spanCond_74 hl rfl rfl (Nat.le_of_ble_eq_true rfl) rfl (fun ls hl => ?_)
                  refine lv_goto (tgt := 30) E.1 E.2.1 dX5_spanCond_77 (by decide) ?_
                  obtain ⟨n37, hnn37, hin37⟩ := hw
                  exact ih10 n37 hnn37 _ _ hin37 _ _ _ hT hS (lv_sub hl [1, 2, 0] rfl)
      exact L11 n13 _ _ hi40 _ _ _ hT hS (lv_sub hl [1, 2, 0] rfl)
    · replace hw := hw.2 (c6)
      refine lv_iconst (v := nI 0) E.1 E.2.1 dX5_spanCond_26 rfl ?_
      exact tw_ireti E hr hlocks hT hS hw dX5_spanCond_27
  refine lv_aload_n E.1 E.2.1 dX5_spanCond_0 rfl (lv_at hl 0 rfl) ?_
  refine tw_callVv E hK hT hS (As := []) (rest := []) (met_next l G ta (d + 5) hw) (cwV 0 E.2.2.2.2 (lw_V q2055 q2057 qs59 q128 q2058) rfl rfl rfl hd_next (rm_ok (by omega) (by decide))) rfl rfl hl.1 (Nat.le_of_ble_eq_true rfl) dX5_spanCond_1 (fun z41 H locs hw hT hS => ?_)
  refine lv_aload_n E.1 E.2.1 dX5_spanCond_4 rfl (lv_at hl 0 rfl) ?_
  refine lv_iload_n E.1 E.2.1 dX5_spanCond_5 rfl (lv_at hl 1 rfl) ?_
  refine lv_iconst (v := nI 5) E.1 E.2.1 dX5_spanCond_6 rfl ?_
  refine lv_icmp_ne (tgt := 14) E.1 E.2.1 dX5_spanCond_7 (by decide) (fun c42 => ?_) (fun c42 => ?_)
  · replace hw := hw.1 (c42)
    refine lv_iconst (v := nI 0) E.1 E.2.1 dX5_spanCond_14 rfl ?_
    exact jh2 _ _ hw _ _ _ hT hS (lv_sub hl [0, 1] rfl)
  · replace hw := hw.2 (c42)
    refine lv_iconst (v := nI 1) E.1 E.2.1 dX5_spanCond_10 rfl ?_
    refine lv_goto (tgt := 15) E.1 E.2.1 dX5_spanCond_11 (by decide) ?_
    exact jh2 _ _ hw _ _ _ hT hS (lv_sub hl [0, 1] rfl)
/-- cond()I -/
def wb_cond (rc : Nat → (Int32 → TS → Prop) → TS → Prop) (post : Int32 → TS → Prop) (z0 : TS) : Prop := rc 1 (fun r2 z1 => ∃ I3 : Nat → TS → Int32 → Prop, (∃ n9, I3 n9 z1 r2) ∧ ∀ (n4 : Nat) (z5 : TS) (x8 : Int32), I3 n4 z5 x8 → wp_isWord (fun b11 z10 => (b11 = false → post x8 z10) ∧ (b11 = true → wp_next (fun z13 => rc 1 (fun r15 z14 => (¬ (sx z14 48) = 0 → ∃ n17, n17 < n4 ∧ I3 n17 z14 x8) ∧ ((sx z14 48) = 0 → wp_newCond (fun r19 z18 => ∃ n20, n20 < n4 ∧ I3 n20 z18 r19) z14 (nI 0) x8 r15 ((-1)))) z13) z10)) z5 13) z0
theorem hd_cond : yX5_cond.cls = RX5 ∧ yX5_cond.cls ≠ "java/lang/invoke/MethodHandle" ∧ yX5_cond.cls ≠ "java/lang/invoke/VarHandle" ∧ (parseMethodDescriptor yX5_cond.desc).map (fun d => d.parameters.length) = some 0 := by decide +kernel
/-- all()I -/
def wb_all (rc : Nat → (Int32 → TS → Prop) → TS → Prop) (post : Int32 → TS → Prop) (z0 : TS) : Prop := rc 2 (fun r2 z1 => ∃ I3 : Nat → TS → Int32 → Prop, (∃ n9, I3 n9 z1 r2) ∧ ∀ (n4 : Nat) (z5 : TS) (x8 : Int32), I3 n4 z5 x8 → wp_isWord (fun b11 z10 => (b11 = false → post x8 z10) ∧ (b11 = true → wp_next (fun z13 => rc 2 (fun r15 z14 => (¬ (sx z14 48) = 0 → ∃ n17, n17 < n4 ∧ I3 n17 z14 x8) ∧ ((sx z14 48) = 0 → wp_newCond (fun r19 z18 => ∃ n20, n20 < n4 ∧ I3 n20 z18 r19) z14 (nI 1) x8 r15 ((-1)))) z13) z10)) z5 1) z0
theorem hd_all : yX5_all.cls = RX5 ∧ yX5_all.cls ≠ "java/lang/invoke/MethodHandle" ∧ yX5_all.cls ≠ "java/lang/invoke/VarHandle" ∧ (parseMethodDescriptor yX5_all.desc).map (fun d => d.parameters.length) = some 0 := by decide +kernel
/-- one()I -/
def wb_one (rc : Nat → (Int32 → TS → Prop) → TS → Prop) (post : Int32 → TS → Prop) (z0 : TS) : Prop := ((sx z0 48) ≤ 0 → wp_isWord (fun b3 z2 => (b3 = false → wp_isSign (fun b6 z5 => (b6 = false → wp_isWord (fun b9 z8 => (b9 = false → wp_isWord (fun b12 z11 => (b12 = false → wp_isWord (fun b15 z14 => (b15 = false → ∃ J17 : TS → Int32 → Prop, (∀ (z19 : TS) (x20 : Int32), J17 z19 x20 → (x20 < 0 → wp_wrong (fun z22 => post (nI 0) z22) z19 (nI 1)) ∧ (¬ x20 < 0 → wp_comparison (fun r24 z23 => post r24 z23) z19 x20)) ∧ (wp_isWord (fun b26 z25 => (b26 = false → wp_isWord (fun b29 z28 => (b29 = false → wp_isWord (fun b32 z31 => (b32 = false → wp_isWord (fun b35 z34 => (b35 = false → J17 z34 ((-1))) ∧ (b35 = true → J17 z34 (nI 9))) z31 18) ∧ (b32 = true → J17 z31 (nI 8))) z28 10) ∧ (b29 = true → J17 z28 (nI 7))) z25 5) ∧ (b26 = true → J17 z25 (nI 6))) z14 0)) ∧ (b15 = true → wp_spanCond (fun r39 z38 => post r39 z38) z14 (nI 5))) z11 6) ∧ (b12 = true → wp_spanCond (fun r41 z40 => post r41 z40) z11 (nI 4))) z8 11) ∧ (b9 = true → wp_spanCond (fun r43 z42 => post r43 z42) z8 (nI 3))) z5 8) ∧ (b6 = true → wp_opens (fun z44 => rc 0 (fun r46 z45 => wp_mustSign (fun z47 => ∀ z48, z48 = ux z47 60 ((sx z47 60) - (nI 1)) → post r46 z48) z45 (nI 41)) z44) z5)) z2 (nI 40)) ∧ (b3 = true → wp_opens (fun z49 => rc 2 (fun r51 z50 => ∀ z52, z52 = ux z50 60 ((sx z50 60) - (nI 1)) → ((sx z52 48) ≤ 0 → wp_newCond (fun r55 z54 => post r55 z54) z52 (nI 2) r51 ((-1)) ((-1))) ∧ (¬ (sx z52 48) ≤ 0 → post (nI 0) z52)) z49) z2)) z0 12) ∧ (¬ (sx z0 48) ≤ 0 → post (nI 0) z0)
theorem hd_one : yX5_one.cls = RX5 ∧ yX5_one.cls ≠ "java/lang/invoke/MethodHandle" ∧ yX5_one.cls ≠ "java/lang/invoke/VarHandle" ∧ (parseMethodDescriptor yX5_one.desc).map (fun d => d.parameters.length) = some 0 := by decide +kernel
def wp_c3 : Nat → Nat → (Int32 → TS → Prop) → TS → Prop
  | 0 => fun _ => fun _ _ => False
  | k + 1 => fun t => if t = 0 then wb_cond (wp_c3 k) else if t = 1 then wb_all (wp_c3 k) else wb_one (wp_c3 k)
def d_c3 : Nat := 41
set_option maxHeartbeats 4000000 in
theorem met_c3 (l : Launch) (G : GP) (ta : Nat → Nat) (d : Nat) : ∀ (k : Nat), (∀ {post : Int32 → TS → Prop} {z0 : TS}, wp_c3 k 0 post z0 → Met l yX5_cond (ws_ yX5_cond cX5_cond 3 (some .int)) (rmd (d + k + 10) 0 0) (tPc G ta z0 [.ref (ta 73)]) (tQi G ta post) 0 0 (TA ta)) ∧ (∀ {post : Int32 → TS → Prop} {z0 : TS}, wp_c3 k 1 post z0 → Met l yX5_all (ws_ yX5_all cX5_all 3 (some .int)) (rmd (d + k + 10) 0 0) (tPc G ta z0 [.ref (ta 73)]) (tQi G ta post) 0 0 (TA ta)) ∧ (∀ {post : Int32 → TS → Prop} {z0 : TS}, wp_c3 k 2 post z0 → Met l yX5_one (ws_ yX5_one cX5_one 2 (some .int)) (rmd (d + k + 10) 0 0) (tPc G ta z0 [.ref (ta 73)]) (tQi G ta post) 0 0 (TA ta)) := by
  intro k
  induction k with
  | zero => exact ⟨fun hw => hw.elim, fun hw => hw.elim, fun hw => hw.elim⟩
  | succ k ih =>
    refine ⟨?_, ?_, ?_⟩
    · intro post z0 hw
      replace hw : wb_cond (wp_c3 k) post z0 := hw
      unfold wb_cond at hw
      refine tw_met (by decide) rfl (Nat.le_of_ble_eq_true rfl) ?_
      intro p e s m args below meth c ls E hr hlocks hK hT hS hl
      replace hl : lv_has ls 3 [(0, .ref (ta 73))] := hl
      refine lv_aload_n E.1 E.2.1 dX5_cond_0 rfl (lv_at hl 0 rfl) ?_
      refine tw_callVi E hK hT hS (As := []) (rest := []) (ih.2.1 hw) (cwV 0 E.2.2.2.2 (lw_V q2227 q2229 qs89 q128 q2230) rfl rfl rfl hd_all (rm_ok (by omega) (by decide))) rfl rfl hl.1 (Nat.le_of_ble_eq_true rfl) dX5_cond_1 (fun r2 z1 H locs hw hT hS => ?_)
      refine lv_istore_n (lv' := [(1, .int (r2)), (0, .ref (ta 73))]) E.1 E.2.1 dX5_cond_4 rfl hl (Nat.le_of_ble_eq_true rfl) rfl (fun ls hl => ?_)
      obtain ⟨I3, ⟨n9, hi22⟩, hb21⟩ := hw
      have L7 : ∀ (n4 : Nat) (z5 : TS) (x8 : Int32), I3 n4 z5 x8 → ∀ (H : Heap) (locs : List Loc) (ls : Array Slot), TW G ta z5 H → va_S (TA ta) s.heap H locs → lv_has ls 3 [(0, .ref (ta 73)), (1, .int (x8))] → W p l e (rmd (d + (k + 1) + 10) 0 0) s m args below meth c H locs 0 0 (MQ below (tQi G ta post) args s 0 0 (TA ta)) (F0 m 5 ls []) := by
        intro n4
        induction n4 using Nat.strongRecOn with
        | _ n4 ih6 =>
          intro z5 x8 hw H locs ls hT hS hl
          replace hw := hb21 n4 z5 x8 hw
          refine lv_aload_n E.1 E.2.1 dX5_cond_5 rfl (lv_at hl 0 rfl) ?_
          refine tw_ldcSw E hK 41 13 rfl dX5_cond_6 ?_
          refine tw_callVz E hK hT hS (As := [.ref (gK G 13)]) (rest := []) (met_isWord l G ta (d + k + 3) hw) (cwV 1 E.2.2.2.2 (lw_V q2079 q2081 qs63 q128 q2082) rfl rfl rfl hd_isWord (rm_ok (by omega) (by decide))) rfl rfl hl.1 (Nat.le_of_ble_eq_true rfl) dX5_cond_9 (fun b11 z10 H locs hw hT hS => ?_)
          refine lv_if_eq (tgt := 43) E.1 E.2.1 dX5_cond_12 (by decide) (fun c12 => ?_) (fun c12 => ?_)
          · replace hw := hw.1 (bi_z c12)
            refine lv_iload_n E.1 E.2.1 dX5_cond_43 rfl (lv_at hl 1 rfl) ?_
            exact tw_ireti E hr hlocks hT hS hw dX5_cond_44
          · replace hw := hw.2 (bi_n c12)
            refine lv_aload_n E.1 E.2.1 dX5_cond_15 rfl (lv_at hl 0 rfl) ?_
            refine tw_callVv E hK hT hS (As := []) (rest := []) (met_next l G ta (d + k + 7) hw) (cwV 0 E.2.2.2.2 (lw_V q2055 q2057 qs59 q128 q2058) rfl rfl rfl hd_next (rm_ok (by omega) (by decide))) rfl rfl hl.1 (Nat.le_of_ble_eq_true rfl) dX5_cond_16 (fun z13 H locs hw hT hS => ?_)
            refine lv_aload_n E.1 E.2.1 dX5_cond_19 rfl (lv_at hl 0 rfl) ?_
            refine tw_callVi E hK hT hS (As := []) (rest := []) (ih.2.1 hw) (cwV 0 E.2.2.2.2 (lw_V q2227 q2229 qs89 q128 q2230) rfl rfl rfl hd_all (rm_ok (by omega) (by decide))) rfl rfl hl.1 (Nat.le_of_ble_eq_true rfl) dX5_cond_20 (fun r15 z14 H locs hw hT hS => ?_)
            refine lv_istore_n (lv' := [(2, .int (r15)), (0, .ref (ta 73)), (1, .int (x8))]) E.1 E.2.1 dX5_cond_23 rfl hl (Nat.le_of_ble_eq_true rfl) rfl (fun ls hl => ?_)
            refine lv_aload_n E.1 E.2.1 dX5_cond_24 rfl (lv_at hl 1 rfl) ?_
            refine tw_get E hK hT 48 (Nat.le_of_ble_eq_true rfl) q1858 rfl (v := .int (sx z14 48)) rfl dX5_cond_25 ?_
            refine lv_if_ne (tgt := 40) E.1 E.2.1 dX5_cond_28 (by decide) (fun c16 => ?_) (fun c16 => ?_)
            · replace hw := hw.1 (c16)
              refine lv_goto (tgt := 5) E.1 E.2.1 dX5_cond_40 (by decide) ?_
              obtain ⟨n17, hnn17, hin17⟩ := hw
              exact ih6 n17 hnn17 _ _ hin17 _ _ _ hT hS (lv_sub hl [1, 2] rfl)
            · replace hw := hw.2 (c16)
              refine lv_aload_n E.1 E.2.1 dX5_cond_31 rfl (lv_at hl 1 rfl) ?_
              refine lv_iconst (v := nI 0) E.1 E.2.1 dX5_cond_32 rfl ?_
              refine lv_iload_n E.1 E.2.1 dX5_cond_33 rfl (lv_at hl 2 rfl) ?_
              refine lv_iload_n E.1 E.2.1 dX5_cond_34 rfl (lv_at hl 0 rfl) ?_
              refine lv_iconst (v := (-1)) E.1 E.2.1 dX5_cond_35 rfl ?_
              refine tw_callVi E hK hT hS (As := [.int (nI 0), .int (x8), .int (r15), .int ((-1))]) (rest := []) (met_newCond l G ta (d + k + 10) hw) (cwV 4 E.2.2.2.2 (lw_V q2235 q2237 qs91 q128 q2238) rfl rfl rfl hd_newCond (rm_ok (by omega) (by decide))) rfl rfl hl.1 (Nat.le_of_ble_eq_true rfl) dX5_cond_36 (fun r19 z18 H locs hw hT hS => ?_)
              refine lv_istore_n (lv' := [(1, .int (r19)), (2, .int (r15)), (0, .ref (ta 73))]) E.1 E.2.1 dX5_cond_39 rfl hl (Nat.le_of_ble_eq_true rfl) rfl (fun ls hl => ?_)
              refine lv_goto (tgt := 5) E.1 E.2.1 dX5_cond_40 (by decide) ?_
              obtain ⟨n20, hnn20, hin20⟩ := hw
              exact ih6 n20 hnn20 _ _ hin20 _ _ _ hT hS (lv_sub hl [2, 0] rfl)
      exact L7 n9 _ _ hi22 _ _ _ hT hS (lv_sub hl [1, 0] rfl)
    · intro post z0 hw
      replace hw : wb_all (wp_c3 k) post z0 := hw
      unfold wb_all at hw
      refine tw_met (by decide) rfl (Nat.le_of_ble_eq_true rfl) ?_
      intro p e s m args below meth c ls E hr hlocks hK hT hS hl
      replace hl : lv_has ls 3 [(0, .ref (ta 73))] := hl
      refine lv_aload_n E.1 E.2.1 dX5_all_0 rfl (lv_at hl 0 rfl) ?_
      refine tw_callVi E hK hT hS (As := []) (rest := []) (ih.2.2 hw) (cwV 0 E.2.2.2.2 (lw_V q2231 q2233 qs90 q128 q2234) rfl rfl rfl hd_one (rm_ok (by omega) (by decide))) rfl rfl hl.1 (Nat.le_of_ble_eq_true rfl) dX5_all_1 (fun r2 z1 H locs hw hT hS => ?_)
      refine lv_istore_n (lv' := [(1, .int (r2)), (0, .ref (ta 73))]) E.1 E.2.1 dX5_all_4 rfl hl (Nat.le_of_ble_eq_true rfl) rfl (fun ls hl => ?_)
      obtain ⟨I3, ⟨n9, hi22⟩, hb21⟩ := hw
      have L7 : ∀ (n4 : Nat) (z5 : TS) (x8 : Int32), I3 n4 z5 x8 → ∀ (H : Heap) (locs : List Loc) (ls : Array Slot), TW G ta z5 H → va_S (TA ta) s.heap H locs → lv_has ls 3 [(0, .ref (ta 73)), (1, .int (x8))] → W p l e (rmd (d + (k + 1) + 10) 0 0) s m args below meth c H locs 0 0 (MQ below (tQi G ta post) args s 0 0 (TA ta)) (F0 m 5 ls []) := by
        intro n4
        induction n4 using Nat.strongRecOn with
        | _ n4 ih6 =>
          intro z5 x8 hw H locs ls hT hS hl
          replace hw := hb21 n4 z5 x8 hw
          refine lv_aload_n E.1 E.2.1 dX5_all_5 rfl (lv_at hl 0 rfl) ?_
          refine tw_ldcSw E hK 42 1 rfl dX5_all_6 ?_
          refine tw_callVz E hK hT hS (As := [.ref (gK G 1)]) (rest := []) (met_isWord l G ta (d + k + 3) hw) (cwV 1 E.2.2.2.2 (lw_V q2079 q2081 qs63 q128 q2082) rfl rfl rfl hd_isWord (rm_ok (by omega) (by decide))) rfl rfl hl.1 (Nat.le_of_ble_eq_true rfl) dX5_all_9 (fun b11 z10 H locs hw hT hS => ?_)
          refine lv_if_eq (tgt := 43) E.1 E.2.1 dX5_all_12 (by decide) (fun c12 => ?_) (fun c12 => ?_)
          · replace hw := hw.1 (bi_z c12)
            refine lv_iload_n E.1 E.2.1 dX5_all_43 rfl (lv_at hl 1 rfl) ?_
            exact tw_ireti E hr hlocks hT hS hw dX5_all_44
          · replace hw := hw.2 (bi_n c12)
            refine lv_aload_n E.1 E.2.1 dX5_all_15 rfl (lv_at hl 0 rfl) ?_
            refine tw_callVv E hK hT hS (As := []) (rest := []) (met_next l G ta (d + k + 7) hw) (cwV 0 E.2.2.2.2 (lw_V q2055 q2057 qs59 q128 q2058) rfl rfl rfl hd_next (rm_ok (by omega) (by decide))) rfl rfl hl.1 (Nat.le_of_ble_eq_true rfl) dX5_all_16 (fun z13 H locs hw hT hS => ?_)
            refine lv_aload_n E.1 E.2.1 dX5_all_19 rfl (lv_at hl 0 rfl) ?_
            refine tw_callVi E hK hT hS (As := []) (rest := []) (ih.2.2 hw) (cwV 0 E.2.2.2.2 (lw_V q2231 q2233 qs90 q128 q2234) rfl rfl rfl hd_one (rm_ok (by omega) (by decide))) rfl rfl hl.1 (Nat.le_of_ble_eq_true rfl) dX5_all_20 (fun r15 z14 H locs hw hT hS => ?_)
            refine lv_istore_n (lv' := [(2, .int (r15)), (0, .ref (ta 73)), (1, .int (x8))]) E.1 E.2.1 dX5_all_23 rfl hl (Nat.le_of_ble_eq_true rfl) rfl (fun ls hl => ?_)
            refine lv_aload_n E.1 E.2.1 dX5_all_24 rfl (lv_at hl 1 rfl) ?_
            refine tw_get E hK hT 48 (Nat.le_of_ble_eq_true rfl) q1858 rfl (v := .int (sx z14 48)) rfl dX5_all_25 ?_
            refine lv_if_ne (tgt := 40) E.1 E.2.1 dX5_all_28 (by decide) (fun c16 => ?_) (fun c16 => ?_)
            · replace hw := hw.1 (c16)
              refine lv_goto (tgt := 5) E.1 E.2.1 dX5_all_40 (by decide) ?_
              obtain ⟨n17, hnn17, hin17⟩ := hw
              exact ih6 n17 hnn17 _ _ hin17 _ _ _ hT hS (lv_sub hl [1, 2] rfl)
            · replace hw := hw.2 (c16)
              refine lv_aload_n E.1 E.2.1 dX5_all_31 rfl (lv_at hl 1 rfl) ?_
              refine lv_iconst (v := nI 1) E.1 E.2.1 dX5_all_32 rfl ?_
              refine lv_iload_n E.1 E.2.1 dX5_all_33 rfl (lv_at hl 2 rfl) ?_
              refine lv_iload_n E.1 E.2.1 dX5_all_34 rfl (lv_at hl 0 rfl) ?_
              refine lv_iconst (v := (-1)) E.1 E.2.1 dX5_all_35 rfl ?_
              refine tw_callVi E hK hT hS (As := [.int (nI 1), .int (x8), .int (r15), .int ((-1))]) (rest := []) (met_newCond l G ta (d + k + 10) hw) (cwV 4 E.2.2.2.2 (lw_V q2235 q2237 qs91 q128 q2238) rfl rfl rfl hd_newCond (rm_ok (by omega) (by decide))) rfl rfl hl.1 (Nat.le_of_ble_eq_true rfl) dX5_all_36 (fun r19 z18 H locs hw hT hS => ?_)
              refine lv_istore_n (lv' := [(1, .int (r19)), (2, .int (r15)), (0, .ref (ta 73))]) E.1 E.2.1 dX5_all_39 rfl hl (Nat.le_of_ble_eq_true rfl) rfl (fun ls hl => ?_)
              refine lv_goto (tgt := 5) E.1 E.2.1 dX5_all_40 (by decide) ?_
              obtain ⟨n20, hnn20, hin20⟩ := hw
              exact ih6 n20 hnn20 _ _ hin20 _ _ _ hT hS (lv_sub hl [2, 0] rfl)
      exact L7 n9 _ _ hi22 _ _ _ hT hS (lv_sub hl [1, 0] rfl)
    · intro post z0 hw
      replace hw : wb_one (wp_c3 k) post z0 := hw
      unfold wb_one at hw
      refine tw_met (by decide) rfl (Nat.le_of_ble_eq_true rfl) ?_
      intro p e s m args below meth c ls E hr hlocks hK hT hS hl
      replace hl : lv_has ls 2 [(0, .ref (ta 73))] := hl
      refine lv_aload_n E.1 E.2.1 dX5_one_0 rfl (lv_at hl 0 rfl) ?_
      refine tw_get E hK hT 48 (Nat.le_of_ble_eq_true rfl) q1858 rfl (v := .int (sx z0 48)) rfl dX5_one_1 ?_
      refine lv_if_le (tgt := 9) E.1 E.2.1 dX5_one_4 (by decide) (fun c1 => ?_) (fun c1 => ?_)
      · replace hw := hw.1 (c1)
        refine lv_aload_n E.1 E.2.1 dX5_one_9 rfl (lv_at hl 0 rfl) ?_
        refine tw_ldcSw E hK 43 12 rfl dX5_one_10 ?_
        refine tw_callVz E hK hT hS (As := [.ref (gK G 12)]) (rest := []) (met_isWord l G ta (d + k + 3) hw) (cwV 1 E.2.2.2.2 (lw_V q2079 q2081 qs63 q128 q2082) rfl rfl rfl hd_isWord (rm_ok (by omega) (by decide))) rfl rfl hl.1 (Nat.le_of_ble_eq_true rfl) dX5_one_13 (fun b3 z2 H locs hw hT hS => ?_)
        refine lv_if_eq (tgt := 58) E.1 E.2.1 dX5_one_16 (by decide) (fun c4 => ?_) (fun c4 => ?_)
        · replace hw := hw.1 (bi_z c4)
          refine lv_aload_n E.1 E.2.1 dX5_one_58 rfl (lv_at hl 0 rfl) ?_
          refine lv_bipush (v := nI 40) E.1 E.2.1 dX5_one_59 rfl ?_
          refine tw_callVz E hK hT hS (As := [.int (nI 40)]) (rest := []) (met_isSign l G ta (d + k + 10) hw) (cwV 1 E.2.2.2.2 (lw_V q2159 q2161 qs72 q128 q2162) rfl rfl rfl hd_isSign (rm_ok (by omega) (by decide))) rfl rfl hl.1 (Nat.le_of_ble_eq_true rfl) dX5_one_61 (fun b6 z5 H locs hw hT hS => ?_)
          refine lv_if_eq (tgt := 94) E.1 E.2.1 dX5_one_64 (by decide) (fun c7 => ?_) (fun c7 => ?_)
          · replace hw := hw.1 (bi_z c7)
            refine lv_aload_n E.1 E.2.1 dX5_one_94 rfl (lv_at hl 0 rfl) ?_
            refine tw_ldcSw E hK 44 8 rfl dX5_one_95 ?_
            refine tw_callVz E hK hT hS (As := [.ref (gK G 8)]) (rest := []) (met_isWord l G ta (d + k + 3) hw) (cwV 1 E.2.2.2.2 (lw_V q2079 q2081 qs63 q128 q2082) rfl rfl rfl hd_isWord (rm_ok (by omega) (by decide))) rfl rfl hl.1 (Nat.le_of_ble_eq_true rfl) dX5_one_98 (fun b9 z8 H locs hw hT hS => ?_)
            refine lv_if_eq (tgt := 110) E.1 E.2.1 dX5_one_101 (by decide) (fun c10 => ?_) (fun c10 => ?_)
            · replace hw := hw.1 (bi_z c10)
              refine lv_aload_n E.1 E.2.1 dX5_one_110 rfl (lv_at hl 0 rfl) ?_
              refine tw_ldcSw E hK 45 11 rfl dX5_one_111 ?_
              refine tw_callVz E hK hT hS (As := [.ref (gK G 11)]) (rest := []) (met_isWord l G ta (d + k + 3) hw) (cwV 1 E.2.2.2.2 (lw_V q2079 q2081 qs63 q128 q2082) rfl rfl rfl hd_isWord (rm_ok (by omega) (by decide))) rfl rfl hl.1 (Nat.le_of_ble_eq_true rfl) dX5_one_114 (fun b12 z11 H locs hw hT hS => ?_)
              refine lv_if_eq (tgt := 126) E.1 E.2.1 dX5_one_117 (by decide) (fun c13 => ?_) (fun c13 => ?_)
              · replace hw := hw.1 (bi_z c13)
                refine lv_aload_n E.1 E.2.1 dX5_one_126 rfl (lv_at hl 0 rfl) ?_
                refine tw_ldcSw E hK 46 6 rfl dX5_one_127 ?_
                refine tw_callVz E hK hT hS (As := [.ref (gK G 6)]) (rest := []) (met_isWord l G ta (d + k + 3) hw) (cwV 1 E.2.2.2.2 (lw_V q2079 q2081 qs63 q128 q2082) rfl rfl rfl hd_isWord (rm_ok (by omega) (by decide))) rfl rfl hl.1 (Nat.le_of_ble_eq_true rfl) dX5_one_130 (fun b15 z14 H locs hw hT hS => ?_)
                refine lv_if_eq (tgt := 142) E.1 E.2.1 dX5_one_133 (by decide) (fun c16 => ?_) (fun c16 => ?_)
                · replace hw := hw.1 (bi_z c16)
                  obtain ⟨J17, hj37, hw⟩ := hw
                  have jh18 : ∀ (z19 : TS) (x20 : Int32), J17 z19 x20 → ∀ (H : Heap) (locs : List Loc) (ls : Array Slot), TW G ta z19 H → va_S (TA ta) s.heap H locs → lv_has ls 2 [(0, .ref (ta 73))] → W p l e (rmd (d + (k + 1) + 10) 0 0) s m args below meth c H locs 0 0 (MQ below (tQi G ta post) args s 0 0 (TA ta)) (F0 m 203 ls [.int (x20)]) := by
                    intro z19 x20 hw H locs ls hT hS hl
                    replace hw := hj37 z19 x20 hw
                    refine lv_istore_n (lv' := [(1, .int (x20)), (0, .ref (ta 73))]) E.1 E.2.1 dX5_one_203 rfl hl (Nat.le_of_ble_eq_true rfl) rfl (fun ls hl => ?_)
                    refine lv_iload_n E.1 E.2.1 dX5_one_204 rfl (lv_at hl 0 rfl) ?_
                    refine lv_if_lt (tgt := 214) E.1 E.2.1 dX5_one_205 (by decide) (fun c21 => ?_) (fun c21 => ?_)
                    · replace hw := hw.1 (c21)
                      refine lv_aload_n E.1 E.2.1 dX5_one_214 rfl (lv_at hl 1 rfl) ?_
                      refine lv_iconst (v := nI 1) E.1 E.2.1 dX5_one_215 rfl ?_
                      refine tw_callVv E hK hT hS (As := [.int (nI 1)]) (rest := []) (met_wrong l G ta (d + k + 9) hw) (cwV 1 E.2.2.2.2 (lw_V q2113 q2115 qs66 q128 q2116) rfl rfl rfl hd_wrong (rm_ok (by omega) (by decide))) rfl rfl hl.1 (Nat.le_of_ble_eq_true rfl) dX5_one_216 (fun z22 H locs hw hT hS => ?_)
                      refine lv_iconst (v := nI 0) E.1 E.2.1 dX5_one_219 rfl ?_
                      exact tw_ireti E hr hlocks hT hS hw dX5_one_220
                    · replace hw := hw.2 (c21)
                      refine lv_aload_n E.1 E.2.1 dX5_one_208 rfl (lv_at hl 1 rfl) ?_
                      refine lv_iload_n E.1 E.2.1 dX5_one_209 rfl (lv_at hl 0 rfl) ?_
                      refine tw_callVi E hK hT hS (As := [.int (x20)]) (rest := []) (met_comparison l G ta (d + k + 5) hw) (cwV 1 E.2.2.2.2 (lw_V q2243 q2245 qs93 q128 q2246) rfl rfl rfl hd_comparison (rm_ok (by omega) (by decide))) rfl rfl hl.1 (Nat.le_of_ble_eq_true rfl) dX5_one_210 (fun r24 z23 H locs hw hT hS => ?_)
                      exact tw_ireti E hr hlocks hT hS hw dX5_one_213
                  refine lv_aload_n E.1 E.2.1 dX5_one_142 rfl (lv_at hl 0 rfl) ?_
                  refine tw_ldcSw E hK 49 0 rfl dX5_one_143 ?_
                  refine tw_callVz E hK hT hS (As := [.ref (gK G 0)]) (rest := []) (met_isWord l G ta (d + k + 3) hw) (cwV 1 E.2.2.2.2 (lw_V q2079 q2081 qs63 q128 q2082) rfl rfl rfl hd_isWord (rm_ok (by omega) (by decide))) rfl rfl hl.1 (Nat.le_of_ble_eq_true rfl) dX5_one_146 (fun b26 z25 H locs hw hT hS => ?_)
                  refine lv_if_eq (tgt := 157) E.1 E.2.1 dX5_one_149 (by decide) (fun c27 => ?_) (fun c27 => ?_)
                  · replace hw := hw.1 (bi_z c27)
                    refine lv_aload_n E.1 E.2.1 dX5_one_157 rfl (lv_at hl 0 rfl) ?_
                    refine tw_ldcSw E hK 50 5 rfl dX5_one_158 ?_
                    refine tw_callVz E hK hT hS (As := [.ref (gK G 5)]) (rest := []) (met_isWord l G ta (d + k + 3) hw) (cwV 1 E.2.2.2.2 (lw_V q2079 q2081 qs63 q128 q2082) rfl rfl rfl hd_isWord (rm_ok (by omega) (by decide))) rfl rfl hl.1 (Nat.le_of_ble_eq_true rfl) dX5_one_161 (fun b29 z28 H locs hw hT hS => ?_)
                    refine lv_if_eq (tgt := 172) E.1 E.2.1 dX5_one_164 (by decide) (fun c30 => ?_) (fun c30 => ?_)
                    · replace hw := hw.1 (bi_z c30)
                      refine lv_aload_n E.1 E.2.1 dX5_one_172 rfl (lv_at hl 0 rfl) ?_
                      refine tw_ldcSw E hK 51 10 rfl dX5_one_173 ?_
                      refine tw_callVz E hK hT hS (As := [.ref (gK G 10)]) (rest := []) (met_isWord l G ta (d + k + 3) hw) (cwV 1 E.2.2.2.2 (lw_V q2079 q2081 qs63 q128 q2082) rfl rfl rfl hd_isWord (rm_ok (by omega) (by decide))) rfl rfl hl.1 (Nat.le_of_ble_eq_true rfl) dX5_one_176 (fun b32 z31 H locs hw hT hS => ?_)
                      refine lv_if_eq (tgt := 187) E.1 E.2.1 dX5_one_179 (by decide) (fun c33 => ?_) (fun c33 => ?_)
                      · replace hw := hw.1 (bi_z c33)
                        refine lv_aload_n E.1 E.2.1 dX5_one_187 rfl (lv_at hl 0 rfl) ?_
                        refine tw_ldcSw E hK 52 18 rfl dX5_one_188 ?_
                        refine tw_callVz E hK hT hS (As := [.ref (gK G 18)]) (rest := []) (met_isWord l G ta (d + k + 3) hw) (cwV 1 E.2.2.2.2 (lw_V q2079 q2081 qs63 q128 q2082) rfl rfl rfl hd_isWord (rm_ok (by omega) (by decide))) rfl rfl hl.1 (Nat.le_of_ble_eq_true rfl) dX5_one_191 (fun b35 z34 H locs hw hT hS => ?_)
                        refine lv_if_eq (tgt := 202) E.1 E.2.1 dX5_one_194 (by decide) (fun c36 => ?_) (fun c36 => ?_)
                        · replace hw := hw.1 (bi_z c36)
                          refine lv_iconst (v := (-1)) E.1 E.2.1 dX5_one_202 rfl ?_
                          exact jh18 _ _ hw _ _ _ hT hS (lv_sub hl [0] rfl)
                        · replace hw := hw.2 (bi_n c36)
                          refine lv_bipush (v := nI 9) E.1 E.2.1 dX5_one_197 rfl ?_
                          refine lv_goto (tgt := 203) E.1 E.2.1 dX5_one_199 (by decide) ?_
                          exact jh18 _ _ hw _ _ _ hT hS (lv_sub hl [0] rfl)
                      · replace hw := hw.2 (bi_n c33)
                        refine lv_bipush (v := nI 8) E.1 E.2.1 dX5_one_182 rfl ?_
                        refine lv_goto (tgt := 203) E.1 E.2.1 dX5_one_184 (by decide) ?_
                        exact jh18 _ _ hw _ _ _ hT hS (lv_sub hl [0] rfl)
                    · replace hw := hw.2 (bi_n c30)
                      refine lv_bipush (v := nI 7) E.1 E.2.1 dX5_one_167 rfl ?_
                      refine lv_goto (tgt := 203) E.1 E.2.1 dX5_one_169 (by decide) ?_
                      exact jh18 _ _ hw _ _ _ hT hS (lv_sub hl [0] rfl)
                  · replace hw := hw.2 (bi_n c27)
                    refine lv_bipush (v := nI 6) E.1 E.2.1 dX5_one_152 rfl ?_
                    refine lv_goto (tgt := 203) E.1 E.2.1 dX5_one_154 (by decide) ?_
                    exact jh18 _ _ hw _ _ _ hT hS (lv_sub hl [0] rfl)
                · replace hw := hw.2 (bi_n c16)
                  refine lv_aload_n E.1 E.2.1 dX5_one_136 rfl (lv_at hl 0 rfl) ?_
                  refine lv_iconst (v := nI 5) E.1 E.2.1 dX5_one_137 rfl ?_
                  refine tw_callVi E hK hT hS (As := [.int (nI 5)]) (rest := []) (met_spanCond l G ta (d + k + 1) hw) (cwV 1 E.2.2.2.2 (lw_V q2239 q2241 qs92 q128 q2242) rfl rfl rfl hd_spanCond (rm_ok (by omega) (by decide))) rfl rfl hl.1 (Nat.le_of_ble_eq_true rfl) dX5_one_138 (fun r39 z38 H locs hw hT hS => ?_)
                  exact tw_ireti E hr hlocks hT hS hw dX5_one_141
              · replace hw := hw.2 (bi_n c13)
                refine lv_aload_n E.1 E.2.1 dX5_one_120 rfl (lv_at hl 0 rfl) ?_
                refine lv_iconst (v := nI 4) E.1 E.2.1 dX5_one_121 rfl ?_
                refine tw_callVi E hK hT hS (As := [.int (nI 4)]) (rest := []) (met_spanCond l G ta (d + k + 1) hw) (cwV 1 E.2.2.2.2 (lw_V q2239 q2241 qs92 q128 q2242) rfl rfl rfl hd_spanCond (rm_ok (by omega) (by decide))) rfl rfl hl.1 (Nat.le_of_ble_eq_true rfl) dX5_one_122 (fun r41 z40 H locs hw hT hS => ?_)
                exact tw_ireti E hr hlocks hT hS hw dX5_one_125
            · replace hw := hw.2 (bi_n c10)
              refine lv_aload_n E.1 E.2.1 dX5_one_104 rfl (lv_at hl 0 rfl) ?_
              refine lv_iconst (v := nI 3) E.1 E.2.1 dX5_one_105 rfl ?_
              refine tw_callVi E hK hT hS (As := [.int (nI 3)]) (rest := []) (met_spanCond l G ta (d + k + 1) hw) (cwV 1 E.2.2.2.2 (lw_V q2239 q2241 qs92 q128 q2242) rfl rfl rfl hd_spanCond (rm_ok (by omega) (by decide))) rfl rfl hl.1 (Nat.le_of_ble_eq_true rfl) dX5_one_106 (fun r43 z42 H locs hw hT hS => ?_)
              exact tw_ireti E hr hlocks hT hS hw dX5_one_109
          · replace hw := hw.2 (bi_n c7)
            refine lv_aload_n E.1 E.2.1 dX5_one_67 rfl (lv_at hl 0 rfl) ?_
            refine tw_callVv E hK hT hS (As := []) (rest := []) (met_opens l G ta (d + k + 6) hw) (cwV 0 E.2.2.2.2 (lw_V q2195 q2197 qs81 q128 q2198) rfl rfl rfl hd_opens (rm_ok (by omega) (by decide))) rfl rfl hl.1 (Nat.le_of_ble_eq_true rfl) dX5_one_68 (fun z44 H locs hw hT hS => ?_)
            refine lv_aload_n E.1 E.2.1 dX5_one_71 rfl (lv_at hl 0 rfl) ?_
            refine tw_callVi E hK hT hS (As := []) (rest := []) (ih.1 hw) (cwV 0 E.2.2.2.2 (lw_V q2223 q2225 qs88 q128 q2226) rfl rfl rfl hd_cond (rm_ok (by omega) (by decide))) rfl rfl hl.1 (Nat.le_of_ble_eq_true rfl) dX5_one_72 (fun r46 z45 H locs hw hT hS => ?_)
            refine lv_istore_n (lv' := [(1, .int (r46)), (0, .ref (ta 73))]) E.1 E.2.1 dX5_one_75 rfl hl (Nat.le_of_ble_eq_true rfl) rfl (fun ls hl => ?_)
            refine lv_aload_n E.1 E.2.1 dX5_one_76 rfl (lv_at hl 1 rfl) ?_
            refine lv_bipush (v := nI 41) E.1 E.2.1 dX5_one_77 rfl ?_
            refine tw_callVv E hK hT hS (As := [.int (nI 41)]) (rest := []) (met_mustSign l G ta (d + k + 6) hw) (cwV 1 E.2.2.2.2 (lw_V q2199 q2201 qs82 q128 q2202) rfl rfl rfl hd_mustSign (rm_ok (by omega) (by decide))) rfl rfl hl.1 (Nat.le_of_ble_eq_true rfl) dX5_one_79 (fun z47 H locs hw hT hS => ?_)
            refine lv_aload_n E.1 E.2.1 dX5_one_82 rfl (lv_at hl 1 rfl) ?_
            refine lv_dup E.1 E.2.1 dX5_one_83 rfl ?_
            refine tw_get E hK hT 60 (Nat.le_of_ble_eq_true rfl) q1870 rfl (v := .int (sx z47 60)) rfl dX5_one_84 ?_
            refine lv_iconst (v := nI 1) E.1 E.2.1 dX5_one_87 rfl ?_
            refine lv_isub E.1 E.2.1 dX5_one_88 ?_
            refine tw_puti E hK hT hS 60 (Nat.le_of_ble_eq_true rfl) q1870 rfl rfl rfl rfl dX5_one_89 (fun H locs hT hS => ?_)
            obtain ⟨z48, ez48⟩ : ∃ y, y = ux z47 60 ((sx z47 60) - (nI 1)) := ⟨_, rfl⟩
            rw [← ez48] at hT
            replace hw := hw z48 ez48
            refine lv_iload_n E.1 E.2.1 dX5_one_92 rfl (lv_at hl 0 rfl) ?_
            exact tw_ireti E hr hlocks hT hS hw dX5_one_93
        · replace hw := hw.2 (bi_n c4)
          refine lv_aload_n E.1 E.2.1 dX5_one_19 rfl (lv_at hl 0 rfl) ?_
          refine tw_callVv E hK hT hS (As := []) (rest := []) (met_opens l G ta (d + k + 6) hw) (cwV 0 E.2.2.2.2 (lw_V q2195 q2197 qs81 q128 q2198) rfl rfl rfl hd_opens (rm_ok (by omega) (by decide))) rfl rfl hl.1 (Nat.le_of_ble_eq_true rfl) dX5_one_20 (fun z49 H locs hw hT hS => ?_)
          refine lv_aload_n E.1 E.2.1 dX5_one_23 rfl (lv_at hl 0 rfl) ?_
          refine tw_callVi E hK hT hS (As := []) (rest := []) (ih.2.2 hw) (cwV 0 E.2.2.2.2 (lw_V q2231 q2233 qs90 q128 q2234) rfl rfl rfl hd_one (rm_ok (by omega) (by decide))) rfl rfl hl.1 (Nat.le_of_ble_eq_true rfl) dX5_one_24 (fun r51 z50 H locs hw hT hS => ?_)
          refine lv_istore_n (lv' := [(1, .int (r51)), (0, .ref (ta 73))]) E.1 E.2.1 dX5_one_27 rfl hl (Nat.le_of_ble_eq_true rfl) rfl (fun ls hl => ?_)
          refine lv_aload_n E.1 E.2.1 dX5_one_28 rfl (lv_at hl 1 rfl) ?_
          refine lv_dup E.1 E.2.1 dX5_one_29 rfl ?_
          refine tw_get E hK hT 60 (Nat.le_of_ble_eq_true rfl) q1870 rfl (v := .int (sx z50 60)) rfl dX5_one_30 ?_
          refine lv_iconst (v := nI 1) E.1 E.2.1 dX5_one_33 rfl ?_
          refine lv_isub E.1 E.2.1 dX5_one_34 ?_
          refine tw_puti E hK hT hS 60 (Nat.le_of_ble_eq_true rfl) q1870 rfl rfl rfl rfl dX5_one_35 (fun H locs hT hS => ?_)
          obtain ⟨z52, ez52⟩ : ∃ y, y = ux z50 60 ((sx z50 60) - (nI 1)) := ⟨_, rfl⟩
          rw [← ez52] at hT
          replace hw := hw z52 ez52
          refine lv_aload_n E.1 E.2.1 dX5_one_38 rfl (lv_at hl 1 rfl) ?_
          refine tw_get E hK hT 48 (Nat.le_of_ble_eq_true rfl) q1858 rfl (v := .int (sx z52 48)) rfl dX5_one_39 ?_
          refine lv_if_le (tgt := 49) E.1 E.2.1 dX5_one_42 (by decide) (fun c53 => ?_) (fun c53 => ?_)
          · replace hw := hw.1 (c53)
            refine lv_aload_n E.1 E.2.1 dX5_one_49 rfl (lv_at hl 1 rfl) ?_
            refine lv_iconst (v := nI 2) E.1 E.2.1 dX5_one_50 rfl ?_
            refine lv_iload_n E.1 E.2.1 dX5_one_51 rfl (lv_at hl 0 rfl) ?_
            refine lv_iconst (v := (-1)) E.1 E.2.1 dX5_one_52 rfl ?_
            refine lv_iconst (v := (-1)) E.1 E.2.1 dX5_one_53 rfl ?_
            refine tw_callVi E hK hT hS (As := [.int (nI 2), .int (r51), .int ((-1)), .int ((-1))]) (rest := []) (met_newCond l G ta (d + k + 10) hw) (cwV 4 E.2.2.2.2 (lw_V q2235 q2237 qs91 q128 q2238) rfl rfl rfl hd_newCond (rm_ok (by omega) (by decide))) rfl rfl hl.1 (Nat.le_of_ble_eq_true rfl) dX5_one_54 (fun r55 z54 H locs hw hT hS => ?_)
            exact tw_ireti E hr hlocks hT hS hw dX5_one_57
          · replace hw := hw.2 (c53)
            refine lv_iconst (v := nI 0) E.1 E.2.1 dX5_one_45 rfl ?_
            refine lv_goto (tgt := 57) E.1 E.2.1 dX5_one_46 (by decide) ?_
            exact tw_ireti E hr hlocks hT hS hw dX5_one_57
      · replace hw := hw.2 (c1)
        refine lv_iconst (v := nI 0) E.1 E.2.1 dX5_one_7 rfl ?_
        exact tw_ireti E hr hlocks hT hS hw dX5_one_8
theorem met_cond (l : Launch) (G : GP) (ta : Nat → Nat) (d : Nat) (k : Nat) {post : Int32 → TS → Prop} {z0 : TS} (hw : wp_c3 k 0 post z0) : Met l yX5_cond (ws_ yX5_cond cX5_cond 3 (some .int)) (rmd (d + k + 10) 0 0) (tPc G ta z0 [.ref (ta 73)]) (tQi G ta post) 0 0 (TA ta) := (met_c3 l G ta d k).1 hw
theorem met_all (l : Launch) (G : GP) (ta : Nat → Nat) (d : Nat) (k : Nat) {post : Int32 → TS → Prop} {z0 : TS} (hw : wp_c3 k 1 post z0) : Met l yX5_all (ws_ yX5_all cX5_all 3 (some .int)) (rmd (d + k + 10) 0 0) (tPc G ta z0 [.ref (ta 73)]) (tQi G ta post) 0 0 (TA ta) := (met_c3 l G ta d k).2.1 hw
theorem met_one (l : Launch) (G : GP) (ta : Nat → Nat) (d : Nat) (k : Nat) {post : Int32 → TS → Prop} {z0 : TS} (hw : wp_c3 k 2 post z0) : Met l yX5_one (ws_ yX5_one cX5_one 2 (some .int)) (rmd (d + k + 10) 0 0) (tPc G ta z0 [.ref (ta 73)]) (tQi G ta post) 0 0 (TA ta) := (met_c3 l G ta d k).2.2 hw
/-- classes(I)I -/
def wp_classes (post : Int32 → TS → Prop) (z0 : TS) (i1 : Int32) : Prop := vp_in (((nI 7) * i1) + (nI 3)) 21 ∧ post (sf z0 3 (((nI 7) * i1) + (nI 3)).toNatClampNeg) z0
theorem hd_classes : yX5_classes.cls = RX5 ∧ yX5_classes.cls ≠ "java/lang/invoke/MethodHandle" ∧ yX5_classes.cls ≠ "java/lang/invoke/VarHandle" ∧ (parseMethodDescriptor yX5_classes.desc).map (fun d => d.parameters.length) = some 1 := by decide +kernel
set_option maxHeartbeats 4000000 in
theorem met_classes (l : Launch) (G : GP) (ta : Nat → Nat) (d : Nat) {post : Int32 → TS → Prop} {z0 : TS} {i1 : Int32} (hw : wp_classes post z0 i1) : Met l yX5_classes (ws_ yX5_classes cX5_classes 2 (some .int)) (rmd (d + 0) 0 0) (tPc G ta z0 [.ref (ta 73), .int (i1)]) (tQi G ta post) 0 0 (TA ta) := by
  unfold wp_classes at hw
  refine tw_met (by decide) rfl (Nat.le_of_ble_eq_true rfl) ?_
  intro p e s m args below meth c ls E hr hlocks hK hT hS hl
  replace hl : lv_has ls 2 [(0, .ref (ta 73)), (1, .int (i1))] := hl
  refine lv_aload_n E.1 E.2.1 dX5_classes_0 rfl (lv_at hl 0 rfl) ?_
  refine tw_get E hK hT 3 (Nat.le_of_ble_eq_true rfl) q1813 rfl (v := .ref (ta 3)) rfl dX5_classes_1 ?_
  refine lv_bipush (v := nI 7) E.1 E.2.1 dX5_classes_4 rfl ?_
  refine lv_iload_n E.1 E.2.1 dX5_classes_6 rfl (lv_at hl 1 rfl) ?_
  refine lv_imul E.1 E.2.1 dX5_classes_7 ?_
  refine lv_iconst (v := nI 3) E.1 E.2.1 dX5_classes_8 rfl ?_
  refine lv_iadd E.1 E.2.1 dX5_classes_9 ?_
  obtain ⟨hin, hw⟩ := hw
  refine tw_iald E hK hT 3 rfl hin dX5_classes_10 ?_
  exact tw_ireti E hr hlocks hT hS hw dX5_classes_11
/-- classOf(IJ)I -/
def wp_classOf (post : Int32 → TS → Prop) (z0 : TS) (i1 : Int32) (j2 : Int64) : Prop := ∃ I1 : Nat → TS → Int32 → Prop, (∃ n7, I1 n7 z0 (nI 0)) ∧ ∀ (n2 : Nat) (z3 : TS) (x6 : Int32), I1 n2 z3 x6 → wp_classes (fun r9 z8 => (r9 ≤ x6 → post ((-1)) z8) ∧ (¬ r9 ≤ x6 → vp_in (((nI 16) * i1) + x6) 48 ∧ (¬ (sg z8 18 (((nI 16) * i1) + x6).toNatClampNeg) = j2 → ∃ n12, n12 < n2 ∧ I1 n12 z8 (x6 + nI 1)) ∧ ((sg z8 18 (((nI 16) * i1) + x6).toNatClampNeg) = j2 → post x6 z8))) z3 i1
theorem hd_classOf : yX5_classOf.cls = RX5 ∧ yX5_classOf.cls ≠ "java/lang/invoke/MethodHandle" ∧ yX5_classOf.cls ≠ "java/lang/invoke/VarHandle" ∧ (parseMethodDescriptor yX5_classOf.desc).map (fun d => d.parameters.length) = some 2 := by decide +kernel
set_option maxHeartbeats 4000000 in
theorem met_classOf (l : Launch) (G : GP) (ta : Nat → Nat) (d : Nat) {post : Int32 → TS → Prop} {z0 : TS} {i1 : Int32} {j2 : Int64} (hw : wp_classOf post z0 i1 j2) : Met l yX5_classOf (ws_ yX5_classOf cX5_classOf 5 (some .int)) (rmd (d + 1) 0 0) (tPc G ta z0 [.ref (ta 73), .int (i1), .long (j2)]) (tQi G ta post) 0 0 (TA ta) := by
  unfold wp_classOf at hw
  refine tw_met (by decide) rfl (Nat.le_of_ble_eq_true rfl) ?_
  intro p e s m args below meth c ls E hr hlocks hK hT hS hl
  replace hl : lv_has ls 5 [(0, .ref (ta 73)), (1, .int (i1)), (2, .long (j2))] := hl
  refine lv_iconst (v := nI 0) E.1 E.2.1 dX5_classOf_0 rfl ?_
  refine lv_istore (lv' := [(4, .int (nI 0)), (0, .ref (ta 73)), (1, .int (i1)), (2, .long (j2))]) E.1 E.2.1 dX5_classOf_1 hl (Nat.le_of_ble_eq_true rfl) rfl (fun ls hl => ?_)
  obtain ⟨I1, ⟨n7, hi14⟩, hb13⟩ := hw
  have L5 : ∀ (n2 : Nat) (z3 : TS) (x6 : Int32), I1 n2 z3 x6 → ∀ (H : Heap) (locs : List Loc) (ls : Array Slot), TW G ta z3 H → va_S (TA ta) s.heap H locs → lv_has ls 5 [(0, .ref (ta 73)), (1, .int (i1)), (2, .long (j2)), (4, .int (x6))] → W p l e (rmd (d + 1) 0 0) s m args below meth c H locs 0 0 (MQ below (tQi G ta post) args s 0 0 (TA ta)) (F0 m 3 ls []) := by
    intro n2
    induction n2 using Nat.strongRecOn with
    | _ n2 ih4 =>
      intro z3 x6 hw H locs ls hT hS hl
      replace hw := hb13 n2 z3 x6 hw
      refine lv_iload E.1 E.2.1 dX5_classOf_3 (lv_at hl 3 rfl) ?_
      refine lv_aload_n E.1 E.2.1 dX5_classOf_5 rfl (lv_at hl 0 rfl) ?_
      refine lv_iload_n E.1 E.2.1 dX5_classOf_6 rfl (lv_at hl 1 rfl) ?_
      refine tw_callVi E hK hT hS (As := [.int (i1)]) (rest := [.int (x6)]) (met_classes l G ta (d) hw) (cwV 1 E.2.2.2.2 (lw_V q2219 q2221 qs87 q128 q2222) rfl rfl rfl hd_classes (rm_ok (by omega) (by decide))) rfl rfl hl.1 (Nat.le_of_ble_eq_true rfl) dX5_classOf_7 (fun r9 z8 H locs hw hT hS => ?_)
      refine lv_icmp_ge (tgt := 39) E.1 E.2.1 dX5_classOf_10 (by decide) (fun c10 => ?_) (fun c10 => ?_)
      · replace hw := hw.1 (c10)
        refine lv_iconst (v := (-1)) E.1 E.2.1 dX5_classOf_39 rfl ?_
        exact tw_ireti E hr hlocks hT hS hw dX5_classOf_40
      · replace hw := hw.2 (c10)
        refine lv_aload_n E.1 E.2.1 dX5_classOf_13 rfl (lv_at hl 0 rfl) ?_
        refine tw_get E hK hT 18 (Nat.le_of_ble_eq_true rfl) q1828 rfl (v := .ref (ta 18)) rfl dX5_classOf_14 ?_
        refine lv_bipush (v := nI 16) E.1 E.2.1 dX5_classOf_17 rfl ?_
        refine lv_iload_n E.1 E.2.1 dX5_classOf_19 rfl (lv_at hl 1 rfl) ?_
        refine lv_imul E.1 E.2.1 dX5_classOf_20 ?_
        refine lv_iload E.1 E.2.1 dX5_classOf_21 (lv_at hl 3 rfl) ?_
        refine lv_iadd E.1 E.2.1 dX5_classOf_23 ?_
        obtain ⟨hin, hw⟩ := hw
        refine tw_lald E hK hT 18 rfl rfl hin dX5_classOf_24 ?_
        refine lv_lload_n E.1 E.2.1 dX5_classOf_25 rfl (lv_at hl 2 rfl) ?_
        refine W.lcmp E.1 E.2.1 dX5_classOf_26 ?_
        refine lv_if_ne (tgt := 33) E.1 E.2.1 dX5_classOf_27 (by decide) (fun c11 => ?_) (fun c11 => ?_)
        · replace hw := hw.1 (fun h => c11 ((lg_cmp_eq _ _).mpr h))
          refine lv_iinc (k := 3) (v := x6 + nI 1) (lv' := [(4, .int (x6 + nI 1)), (0, .ref (ta 73)), (1, .int (i1)), (2, .long (j2))]) E.1 E.2.1 dX5_classOf_33 hl rfl rfl (Nat.le_of_ble_eq_true rfl) rfl (fun ls hl => ?_)
          refine lv_goto (tgt := 3) E.1 E.2.1 dX5_classOf_36 (by decide) ?_
          obtain ⟨n12, hnn12, hin12⟩ := hw
          exact ih4 n12 hnn12 _ _ hin12 _ _ _ hT hS (lv_sub hl [1, 2, 3, 0] rfl)
        · replace hw := hw.2 ((lg_cmp_eq _ _).mp c11)
          refine lv_iload E.1 E.2.1 dX5_classOf_30 (lv_at hl 3 rfl) ?_
          exact tw_ireti E hr hlocks hT hS hw dX5_classOf_32
  exact L5 n7 _ _ hi14 _ _ _ hT hS (lv_sub hl [1, 2, 3, 0] rfl)
/-- newNode()I -/
def wp_newNode (post : Int32 → TS → Prop) (z0 : TS) : Prop := wp_nodes (fun r2 z1 => (¬ r2 = (nI 40) → vp_in (((nI 7) * (sx z1 31)) + (nI 4)) 21 ∧ vp_in (((nI 7) * (sx z1 31)) + (nI 4)) 21 ∧ ∀ z4, z4 = uf z1 3 (((nI 7) * (sx z1 31)) + (nI 4)).toNatClampNeg ((sf z1 3 (((nI 7) * (sx z1 31)) + (nI 4)).toNatClampNeg) + (nI 1)) → vp_in (((nI 40) * (sx z4 31)) + r2) 120 ∧ ∀ z5, z5 = uf z4 24 (((nI 40) * (sx z4 31)) + r2).toNatClampNeg (sx z4 61) → post r2 z5) ∧ (r2 = (nI 40) → wp_wrong (fun z6 => post (nI 0) z6) z1 (nI 4))) z0 (sx z0 31)
theorem hd_newNode : yX5_newNode.cls = RX5 ∧ yX5_newNode.cls ≠ "java/lang/invoke/MethodHandle" ∧ yX5_newNode.cls ≠ "java/lang/invoke/VarHandle" ∧ (parseMethodDescriptor yX5_newNode.desc).map (fun d => d.parameters.length) = some 0 := by decide +kernel
set_option maxHeartbeats 4000000 in
theorem met_newNode (l : Launch) (G : GP) (ta : Nat → Nat) (d : Nat) {post : Int32 → TS → Prop} {z0 : TS} (hw : wp_newNode post z0) : Met l yX5_newNode (ws_ yX5_newNode cX5_newNode 2 (some .int)) (rmd (d + 2) 0 0) (tPc G ta z0 [.ref (ta 73)]) (tQi G ta post) 0 0 (TA ta) := by
  unfold wp_newNode at hw
  refine tw_met (by decide) rfl (Nat.le_of_ble_eq_true rfl) ?_
  intro p e s m args below meth c ls E hr hlocks hK hT hS hl
  replace hl : lv_has ls 2 [(0, .ref (ta 73))] := hl
  refine lv_aload_n E.1 E.2.1 dX5_newNode_0 rfl (lv_at hl 0 rfl) ?_
  refine lv_aload_n E.1 E.2.1 dX5_newNode_1 rfl (lv_at hl 0 rfl) ?_
  refine tw_get E hK hT 31 (Nat.le_of_ble_eq_true rfl) q1841 rfl (v := .int (sx z0 31)) rfl dX5_newNode_2 ?_
  refine tw_callVi E hK hT hS (As := [.int (sx z0 31)]) (rest := []) (met_nodes l G ta (d + 1) hw) (cwV 1 E.2.2.2.2 (lw_V q2211 q2213 qs85 q128 q2214) rfl rfl rfl hd_nodes (rm_ok (by omega) (by decide))) rfl rfl hl.1 (Nat.le_of_ble_eq_true rfl) dX5_newNode_5 (fun r2 z1 H locs hw hT hS => ?_)
  refine lv_istore_n (lv' := [(1, .int (r2)), (0, .ref (ta 73))]) E.1 E.2.1 dX5_newNode_8 rfl hl (Nat.le_of_ble_eq_true rfl) rfl (fun ls hl => ?_)
  refine lv_iload_n E.1 E.2.1 dX5_newNode_9 rfl (lv_at hl 0 rfl) ?_
  refine lv_bipush (v := nI 40) E.1 E.2.1 dX5_newNode_10 rfl ?_
  refine lv_icmp_ne (tgt := 22) E.1 E.2.1 dX5_newNode_12 (by decide) (fun c3 => ?_) (fun c3 => ?_)
  · replace hw := hw.1 (c3)
    refine lv_aload_n E.1 E.2.1 dX5_newNode_22 rfl (lv_at hl 1 rfl) ?_
    refine tw_get E hK hT 3 (Nat.le_of_ble_eq_true rfl) q1813 rfl (v := .ref (ta 3)) rfl dX5_newNode_23 ?_
    refine lv_bipush (v := nI 7) E.1 E.2.1 dX5_newNode_26 rfl ?_
    refine lv_aload_n E.1 E.2.1 dX5_newNode_28 rfl (lv_at hl 1 rfl) ?_
    refine tw_get E hK hT 31 (Nat.le_of_ble_eq_true rfl) q1841 rfl (v := .int (sx z1 31)) rfl dX5_newNode_29 ?_
    refine lv_imul E.1 E.2.1 dX5_newNode_32 ?_
    refine lv_iconst (v := nI 4) E.1 E.2.1 dX5_newNode_33 rfl ?_
    refine lv_iadd E.1 E.2.1 dX5_newNode_34 ?_
    refine lv_dup2_11 E.1 E.2.1 dX5_newNode_35 rfl rfl ?_
    obtain ⟨hin, hw⟩ := hw
    refine tw_iald E hK hT 3 rfl hin dX5_newNode_36 ?_
    refine lv_iconst (v := nI 1) E.1 E.2.1 dX5_newNode_37 rfl ?_
    refine lv_iadd E.1 E.2.1 dX5_newNode_38 ?_
    obtain ⟨hin, hw⟩ := hw
    refine tw_iast E hK hT hS 3 rfl hin dX5_newNode_39 (fun H locs hT hS => ?_)
    obtain ⟨z4, ez4⟩ : ∃ y, y = uf z1 3 (((nI 7) * (sx z1 31)) + (nI 4)).toNatClampNeg ((sf z1 3 (((nI 7) * (sx z1 31)) + (nI 4)).toNatClampNeg) + (nI 1)) := ⟨_, rfl⟩
    rw [← ez4] at hT
    replace hw := hw z4 ez4
    refine lv_aload_n E.1 E.2.1 dX5_newNode_40 rfl (lv_at hl 1 rfl) ?_
    refine tw_get E hK hT 24 (Nat.le_of_ble_eq_true rfl) q1834 rfl (v := .ref (ta 24)) rfl dX5_newNode_41 ?_
    refine lv_bipush (v := nI 40) E.1 E.2.1 dX5_newNode_44 rfl ?_
    refine lv_aload_n E.1 E.2.1 dX5_newNode_46 rfl (lv_at hl 1 rfl) ?_
    refine tw_get E hK hT 31 (Nat.le_of_ble_eq_true rfl) q1841 rfl (v := .int (sx z4 31)) rfl dX5_newNode_47 ?_
    refine lv_imul E.1 E.2.1 dX5_newNode_50 ?_
    refine lv_iload_n E.1 E.2.1 dX5_newNode_51 rfl (lv_at hl 0 rfl) ?_
    refine lv_iadd E.1 E.2.1 dX5_newNode_52 ?_
    refine lv_aload_n E.1 E.2.1 dX5_newNode_53 rfl (lv_at hl 1 rfl) ?_
    refine tw_get E hK hT 61 (Nat.le_of_ble_eq_true rfl) q1871 rfl (v := .int (sx z4 61)) rfl dX5_newNode_54 ?_
    obtain ⟨hin, hw⟩ := hw
    refine tw_iast E hK hT hS 24 rfl hin dX5_newNode_57 (fun H locs hT hS => ?_)
    obtain ⟨z5, ez5⟩ : ∃ y, y = uf z4 24 (((nI 40) * (sx z4 31)) + r2).toNatClampNeg (sx z4 61) := ⟨_, rfl⟩
    rw [← ez5] at hT
    replace hw := hw z5 ez5
    refine lv_iload_n E.1 E.2.1 dX5_newNode_58 rfl (lv_at hl 0 rfl) ?_
    exact tw_ireti E hr hlocks hT hS hw dX5_newNode_59
  · replace hw := hw.2 (c3)
    refine lv_aload_n E.1 E.2.1 dX5_newNode_15 rfl (lv_at hl 1 rfl) ?_
    refine lv_iconst (v := nI 4) E.1 E.2.1 dX5_newNode_16 rfl ?_
    refine tw_callVv E hK hT hS (As := [.int (nI 4)]) (rest := []) (met_wrong l G ta (d) hw) (cwV 1 E.2.2.2.2 (lw_V q2113 q2115 qs66 q128 q2116) rfl rfl rfl hd_wrong (rm_ok (by omega) (by decide))) rfl rfl hl.1 (Nat.le_of_ble_eq_true rfl) dX5_newNode_17 (fun z6 H locs hw hT hS => ?_)
    refine lv_iconst (v := nI 0) E.1 E.2.1 dX5_newNode_20 rfl ?_
    exact tw_ireti E hr hlocks hT hS hw dX5_newNode_21
/-- leaf()I -/
def wp_leaf (post : Int32 → TS → Prop) (z0 : TS) : Prop := wp_newNode (fun r2 z1 => wp_next (fun z3 => wp_name (fun w5 z4 => ((sx z4 48) ≤ 0 → ∃ J7 : TS → Int32 → Prop, (∀ (z9 : TS) (x10 : Int32), J7 z9 x10 → ∃ J11 : TS → Prop, (∀ (z13 : TS), J11 z13  → ∃ J14 : TS → Prop, (∀ (z16 : TS), J14 z16  → ∃ J17 : TS → Prop, (∀ (z19 : TS), J17 z19  → ∀ x20, x20 = sx z19 47 → wp_next (fun z21 => ((sx z21 48) ≤ 0 → ∃ J23 : TS → Int32 → Prop, (∀ (z25 : TS) (x26 : Int32), J23 z25 x26 → vp_in (((nI 40) * (sx z25 31)) + r2) 120 ∧ ∀ z27, z27 = uf z25 20 (((nI 40) * (sx z25 31)) + r2).toNatClampNeg x26 → post r2 z27) ∧ ((0 ≤ x10 → J23 z21 x10) ∧ (¬ 0 ≤ x10 → wp_classes (fun r30 z29 => vp_in (((nI 16) * (sx z29 31)) + r30) 48 ∧ ∀ z31, z31 = ug z29 18 (((nI 16) * (sx z29 31)) + r30).toNatClampNeg w5 → vp_in (((nI 16) * (sx z31 31)) + r30) 48 ∧ ∀ z32, z32 = uf z31 19 (((nI 16) * (sx z31 31)) + r30).toNatClampNeg x20 → vp_in (((nI 7) * (sx z32 31)) + (nI 3)) 21 ∧ vp_in (((nI 7) * (sx z32 31)) + (nI 3)) 21 ∧ ∀ z33, z33 = uf z32 3 (((nI 7) * (sx z32 31)) + (nI 3)).toNatClampNeg ((sf z32 3 (((nI 7) * (sx z32 31)) + (nI 3)).toNatClampNeg) + (nI 1)) → J23 z33 r30) z21 (sx z21 31)))) ∧ (¬ (sx z21 48) ≤ 0 → post (nI 0) z21)) z19) ∧ ((¬ (sx z16 48) = 0 → J17 z16 ) ∧ ((sx z16 48) = 0 → (x10 < 0 → J17 z16 ) ∧ (¬ x10 < 0 → vp_in (((nI 16) * (sx z16 31)) + x10) 48 ∧ ((sf z16 19 (((nI 16) * (sx z16 31)) + x10).toNatClampNeg) = (sx z16 47) → J17 z16 ) ∧ (¬ (sf z16 19 (((nI 16) * (sx z16 31)) + x10).toNatClampNeg) = (sx z16 47) → wp_wrong (fun z38 => J17 z38 ) z16 (nI 3)))))) ∧ ((¬ (sx z13 48) = 0 → J14 z13 ) ∧ ((sx z13 48) = 0 → wp_within (fun b42 z41 => (b42 = true → J14 z41 ) ∧ (b42 = false → wp_wrong (fun z44 => J14 z44 ) z41 (nI 2))) z13 (sx z13 47) (nI 1) (nI 999)))) ∧ (wp_next (fun z46 => (¬ (sx z46 48) = 0 → J11 z46 ) ∧ ((sx z46 48) = 0 → ((sx z46 45) = (nI 3) → J11 z46 ) ∧ (¬ (sx z46 45) = (nI 3) → wp_wrong (fun z49 => J11 z49 ) z46 (nI 1)))) z9)) ∧ (wp_classOf (fun r52 z51 => (0 ≤ r52 → J7 z51 r52) ∧ (¬ 0 ≤ r52 → wp_classes (fun r55 z54 => (¬ r55 = (nI 16) → J7 z54 r52) ∧ (r55 = (nI 16) → wp_wrong (fun z57 => J7 z57 r52) z54 (nI 4))) z51 (sx z51 31))) z4 (sx z4 31) w5)) ∧ (¬ (sx z4 48) ≤ 0 → post (nI 0) z4)) z3) z1) z0
theorem hd_leaf : yX5_leaf.cls = RX5 ∧ yX5_leaf.cls ≠ "java/lang/invoke/MethodHandle" ∧ yX5_leaf.cls ≠ "java/lang/invoke/VarHandle" ∧ (parseMethodDescriptor yX5_leaf.desc).map (fun d => d.parameters.length) = some 0 := by decide +kernel
set_option maxHeartbeats 4000000 in
theorem met_leaf (l : Launch) (G : GP) (ta : Nat → Nat) (d : Nat) {post : Int32 → TS → Prop} {z0 : TS} (hw : wp_leaf post z0) : Met l yX5_leaf (ws_ yX5_leaf cX5_leaf 6 (some .int)) (rmd (d + 10) 0 0) (tPc G ta z0 [.ref (ta 73)]) (tQi G ta post) 0 0 (TA ta) := by
  unfold wp_leaf at hw
  refine tw_met (by decide) rfl (Nat.le_of_ble_eq_true rfl) ?_
  intro p e s m args below meth c ls E hr hlocks hK hT hS hl
  replace hl : lv_has ls 6 [(0, .ref (ta 73))] := hl
  refine lv_aload_n E.1 E.2.1 dX5_leaf_0 rfl (lv_at hl 0 rfl) ?_
  refine tw_callVi E hK hT hS (As := []) (rest := []) (met_newNode l G ta (d + 7) hw) (cwV 0 E.2.2.2.2 (lw_V q2207 q2209 qs84 q128 q2210) rfl rfl rfl hd_newNode (rm_ok (by omega) (by decide))) rfl rfl hl.1 (Nat.le_of_ble_eq_true rfl) dX5_leaf_1 (fun r2 z1 H locs hw hT hS => ?_)
  refine lv_istore_n (lv' := [(1, .int (r2)), (0, .ref (ta 73))]) E.1 E.2.1 dX5_leaf_4 rfl hl (Nat.le_of_ble_eq_true rfl) rfl (fun ls hl => ?_)
  refine lv_aload_n E.1 E.2.1 dX5_leaf_5 rfl (lv_at hl 1 rfl) ?_
  refine tw_callVv E hK hT hS (As := []) (rest := []) (met_next l G ta (d + 6) hw) (cwV 0 E.2.2.2.2 (lw_V q2055 q2057 qs59 q128 q2058) rfl rfl rfl hd_next (rm_ok (by omega) (by decide))) rfl rfl hl.1 (Nat.le_of_ble_eq_true rfl) dX5_leaf_6 (fun z3 H locs hw hT hS => ?_)
  refine lv_aload_n E.1 E.2.1 dX5_leaf_9 rfl (lv_at hl 1 rfl) ?_
  refine tw_callVl E hK hT hS (As := []) (rest := []) (met_name l G ta (d) hw) (cwV 0 E.2.2.2.2 (lw_V q2121 q2123 qs68 q128 q2124) rfl rfl rfl hd_name (rm_ok (by omega) (by decide))) rfl rfl hl.1 (Nat.le_of_ble_eq_true rfl) dX5_leaf_10 (fun w5 z4 H locs hw hT hS => ?_)
  refine lv_lstore_n (lv' := [(2, .long (w5)), (1, .int (r2)), (0, .ref (ta 73))]) E.1 E.2.1 dX5_leaf_13 rfl hl (Nat.le_of_ble_eq_true rfl) rfl (fun ls hl => ?_)
  refine lv_aload_n E.1 E.2.1 dX5_leaf_14 rfl (lv_at hl 2 rfl) ?_
  refine tw_get E hK hT 48 (Nat.le_of_ble_eq_true rfl) q1858 rfl (v := .int (sx z4 48)) rfl dX5_leaf_15 ?_
  refine lv_if_le (tgt := 23) E.1 E.2.1 dX5_leaf_18 (by decide) (fun c6 => ?_) (fun c6 => ?_)
  · replace hw := hw.1 (c6)
    obtain ⟨J7, hj58, hw⟩ := hw
    have jh8 : ∀ (z9 : TS) (x10 : Int32), J7 z9 x10 → ∀ (H : Heap) (locs : List Loc) (ls : Array Slot), TW G ta z9 H → va_S (TA ta) s.heap H locs → lv_has ls 6 [(0, .ref (ta 73)), (1, .int (r2)), (2, .long (w5)), (4, .int (x10))] → W p l e (rmd (d + 10) 0 0) s m args below meth c H locs 0 0 (MQ below (tQi G ta post) args s 0 0 (TA ta)) (F0 m 57 ls []) := by
      intro z9 x10 hw H locs ls hT hS hl
      replace hw := hj58 z9 x10 hw
      obtain ⟨J11, hj50, hw⟩ := hw
      have jh12 : ∀ (z13 : TS), J11 z13  → ∀ (H : Heap) (locs : List Loc) (ls : Array Slot), TW G ta z13 H → va_S (TA ta) s.heap H locs → lv_has ls 6 [(0, .ref (ta 73)), (1, .int (r2)), (2, .long (w5)), (4, .int (x10))] → W p l e (rmd (d + 10) 0 0) s m args below meth c H locs 0 0 (MQ below (tQi G ta post) args s 0 0 (TA ta)) (F0 m 81 ls []) := by
        intro z13 hw H locs ls hT hS hl
        replace hw := hj50 z13 hw
        obtain ⟨J14, hj45, hw⟩ := hw
        have jh15 : ∀ (z16 : TS), J14 z16  → ∀ (H : Heap) (locs : List Loc) (ls : Array Slot), TW G ta z16 H → va_S (TA ta) s.heap H locs → lv_has ls 6 [(0, .ref (ta 73)), (1, .int (r2)), (2, .long (w5)), (4, .int (x10))] → W p l e (rmd (d + 10) 0 0) s m args below meth c H locs 0 0 (MQ below (tQi G ta post) args s 0 0 (TA ta)) (F0 m 107 ls []) := by
          intro z16 hw H locs ls hT hS hl
          replace hw := hj45 z16 hw
          obtain ⟨J17, hj39, hw⟩ := hw
          have jh18 : ∀ (z19 : TS), J17 z19  → ∀ (H : Heap) (locs : List Loc) (ls : Array Slot), TW G ta z19 H → va_S (TA ta) s.heap H locs → lv_has ls 6 [(0, .ref (ta 73)), (1, .int (r2)), (2, .long (w5)), (4, .int (x10))] → W p l e (rmd (d + 10) 0 0) s m args below meth c H locs 0 0 (MQ below (tQi G ta post) args s 0 0 (TA ta)) (F0 m 146 ls []) := by
            intro z19 hw H locs ls hT hS hl
            replace hw := hj39 z19 hw
            refine lv_aload_n E.1 E.2.1 dX5_leaf_146 rfl (lv_at hl 0 rfl) ?_
            refine tw_get E hK hT 47 (Nat.le_of_ble_eq_true rfl) q1857 rfl (v := .int (sx z19 47)) rfl dX5_leaf_147 ?_
            refine lv_topi (fun x20 ex20 => ?_)
            replace hw := hw x20 ex20
            refine lv_istore (lv' := [(5, .int (x20)), (0, .ref (ta 73)), (1, .int (r2)), (2, .long (w5)), (4, .int (x10))]) E.1 E.2.1 dX5_leaf_150 hl (Nat.le_of_ble_eq_true rfl) rfl (fun ls hl => ?_)
            refine lv_aload_n E.1 E.2.1 dX5_leaf_152 rfl (lv_at hl 1 rfl) ?_
            refine tw_callVv E hK hT hS (As := []) (rest := []) (met_next l G ta (d + 6) hw) (cwV 0 E.2.2.2.2 (lw_V q2055 q2057 qs59 q128 q2058) rfl rfl rfl hd_next (rm_ok (by omega) (by decide))) rfl rfl hl.1 (Nat.le_of_ble_eq_true rfl) dX5_leaf_153 (fun z21 H locs hw hT hS => ?_)
            refine lv_aload_n E.1 E.2.1 dX5_leaf_156 rfl (lv_at hl 1 rfl) ?_
            refine tw_get E hK hT 48 (Nat.le_of_ble_eq_true rfl) q1858 rfl (v := .int (sx z21 48)) rfl dX5_leaf_157 ?_
            refine lv_if_le (tgt := 165) E.1 E.2.1 dX5_leaf_160 (by decide) (fun c22 => ?_) (fun c22 => ?_)
            · replace hw := hw.1 (c22)
              obtain ⟨J23, hj34, hw⟩ := hw
              have jh24 : ∀ (z25 : TS) (x26 : Int32), J23 z25 x26 → ∀ (H : Heap) (locs : List Loc) (ls : Array Slot), TW G ta z25 H → va_S (TA ta) s.heap H locs → lv_has ls 6 [(0, .ref (ta 73)), (1, .int (r2)), (4, .int (x26))] → W p l e (rmd (d + 10) 0 0) s m args below meth c H locs 0 0 (MQ below (tQi G ta post) args s 0 0 (TA ta)) (F0 m 231 ls []) := by
                intro z25 x26 hw H locs ls hT hS hl
                replace hw := hj34 z25 x26 hw
                refine lv_aload_n E.1 E.2.1 dX5_leaf_231 rfl (lv_at hl 0 rfl) ?_
                refine tw_get E hK hT 20 (Nat.le_of_ble_eq_true rfl) q1830 rfl (v := .ref (ta 20)) rfl dX5_leaf_232 ?_
                refine lv_bipush (v := nI 40) E.1 E.2.1 dX5_leaf_235 rfl ?_
                refine lv_aload_n E.1 E.2.1 dX5_leaf_237 rfl (lv_at hl 0 rfl) ?_
                refine tw_get E hK hT 31 (Nat.le_of_ble_eq_true rfl) q1841 rfl (v := .int (sx z25 31)) rfl dX5_leaf_238 ?_
                refine lv_imul E.1 E.2.1 dX5_leaf_241 ?_
                refine lv_iload_n E.1 E.2.1 dX5_leaf_242 rfl (lv_at hl 1 rfl) ?_
                refine lv_iadd E.1 E.2.1 dX5_leaf_243 ?_
                refine lv_iload E.1 E.2.1 dX5_leaf_244 (lv_at hl 2 rfl) ?_
                obtain ⟨hin, hw⟩ := hw
                refine tw_iast E hK hT hS 20 rfl hin dX5_leaf_246 (fun H locs hT hS => ?_)
                obtain ⟨z27, ez27⟩ : ∃ y, y = uf z25 20 (((nI 40) * (sx z25 31)) + r2).toNatClampNeg x26 := ⟨_, rfl⟩
                rw [← ez27] at hT
                replace hw := hw z27 ez27
                refine lv_iload_n E.1 E.2.1 dX5_leaf_247 rfl (lv_at hl 1 rfl) ?_
                exact tw_ireti E hr hlocks hT hS hw dX5_leaf_248
              refine lv_iload E.1 E.2.1 dX5_leaf_165 (lv_at hl 4 rfl) ?_
              refine lv_if_ge (tgt := 231) E.1 E.2.1 dX5_leaf_167 (by decide) (fun c28 => ?_) (fun c28 => ?_)
              · replace hw := hw.1 (c28)
                exact jh24 _ _ hw _ _ _ hT hS (lv_sub hl [1, 2, 4] rfl)
              · replace hw := hw.2 (c28)
                refine lv_aload_n E.1 E.2.1 dX5_leaf_170 rfl (lv_at hl 1 rfl) ?_
                refine lv_aload_n E.1 E.2.1 dX5_leaf_171 rfl (lv_at hl 1 rfl) ?_
                refine tw_get E hK hT 31 (Nat.le_of_ble_eq_true rfl) q1841 rfl (v := .int (sx z21 31)) rfl dX5_leaf_172 ?_
                refine tw_callVi E hK hT hS (As := [.int (sx z21 31)]) (rest := []) (met_classes l G ta (d + 9) hw) (cwV 1 E.2.2.2.2 (lw_V q2219 q2221 qs87 q128 q2222) rfl rfl rfl hd_classes (rm_ok (by omega) (by decide))) rfl rfl hl.1 (Nat.le_of_ble_eq_true rfl) dX5_leaf_175 (fun r30 z29 H locs hw hT hS => ?_)
                refine lv_istore (lv' := [(4, .int (r30)), (5, .int (x20)), (0, .ref (ta 73)), (1, .int (r2)), (2, .long (w5))]) E.1 E.2.1 dX5_leaf_178 hl (Nat.le_of_ble_eq_true rfl) rfl (fun ls hl => ?_)
                refine lv_aload_n E.1 E.2.1 dX5_leaf_180 rfl (lv_at hl 2 rfl) ?_
                refine tw_get E hK hT 18 (Nat.le_of_ble_eq_true rfl) q1828 rfl (v := .ref (ta 18)) rfl dX5_leaf_181 ?_
                refine lv_bipush (v := nI 16) E.1 E.2.1 dX5_leaf_184 rfl ?_
                refine lv_aload_n E.1 E.2.1 dX5_leaf_186 rfl (lv_at hl 2 rfl) ?_
                refine tw_get E hK hT 31 (Nat.le_of_ble_eq_true rfl) q1841 rfl (v := .int (sx z29 31)) rfl dX5_leaf_187 ?_
                refine lv_imul E.1 E.2.1 dX5_leaf_190 ?_
                refine lv_iload E.1 E.2.1 dX5_leaf_191 (lv_at hl 0 rfl) ?_
                refine lv_iadd E.1 E.2.1 dX5_leaf_193 ?_
                refine lv_lload_n E.1 E.2.1 dX5_leaf_194 rfl (lv_at hl 4 rfl) ?_
                obtain ⟨hin, hw⟩ := hw
                refine tw_last E hK hT hS 18 rfl rfl hin dX5_leaf_195 (fun H locs hT hS => ?_)
                obtain ⟨z31, ez31⟩ : ∃ y, y = ug z29 18 (((nI 16) * (sx z29 31)) + r30).toNatClampNeg w5 := ⟨_, rfl⟩
                rw [← ez31] at hT
                replace hw := hw z31 ez31
                refine lv_aload_n E.1 E.2.1 dX5_leaf_196 rfl (lv_at hl 2 rfl) ?_
                refine tw_get E hK hT 19 (Nat.le_of_ble_eq_true rfl) q1829 rfl (v := .ref (ta 19)) rfl dX5_leaf_197 ?_
                refine lv_bipush (v := nI 16) E.1 E.2.1 dX5_leaf_200 rfl ?_
                refine lv_aload_n E.1 E.2.1 dX5_leaf_202 rfl (lv_at hl 2 rfl) ?_
                refine tw_get E hK hT 31 (Nat.le_of_ble_eq_true rfl) q1841 rfl (v := .int (sx z31 31)) rfl dX5_leaf_203 ?_
                refine lv_imul E.1 E.2.1 dX5_leaf_206 ?_
                refine lv_iload E.1 E.2.1 dX5_leaf_207 (lv_at hl 0 rfl) ?_
                refine lv_iadd E.1 E.2.1 dX5_leaf_209 ?_
                refine lv_iload E.1 E.2.1 dX5_leaf_210 (lv_at hl 1 rfl) ?_
                obtain ⟨hin, hw⟩ := hw
                refine tw_iast E hK hT hS 19 rfl hin dX5_leaf_212 (fun H locs hT hS => ?_)
                obtain ⟨z32, ez32⟩ : ∃ y, y = uf z31 19 (((nI 16) * (sx z31 31)) + r30).toNatClampNeg x20 := ⟨_, rfl⟩
                rw [← ez32] at hT
                replace hw := hw z32 ez32
                refine lv_aload_n E.1 E.2.1 dX5_leaf_213 rfl (lv_at hl 2 rfl) ?_
                refine tw_get E hK hT 3 (Nat.le_of_ble_eq_true rfl) q1813 rfl (v := .ref (ta 3)) rfl dX5_leaf_214 ?_
                refine lv_bipush (v := nI 7) E.1 E.2.1 dX5_leaf_217 rfl ?_
                refine lv_aload_n E.1 E.2.1 dX5_leaf_219 rfl (lv_at hl 2 rfl) ?_
                refine tw_get E hK hT 31 (Nat.le_of_ble_eq_true rfl) q1841 rfl (v := .int (sx z32 31)) rfl dX5_leaf_220 ?_
                refine lv_imul E.1 E.2.1 dX5_leaf_223 ?_
                refine lv_iconst (v := nI 3) E.1 E.2.1 dX5_leaf_224 rfl ?_
                refine lv_iadd E.1 E.2.1 dX5_leaf_225 ?_
                refine lv_dup2_11 E.1 E.2.1 dX5_leaf_226 rfl rfl ?_
                obtain ⟨hin, hw⟩ := hw
                refine tw_iald E hK hT 3 rfl hin dX5_leaf_227 ?_
                refine lv_iconst (v := nI 1) E.1 E.2.1 dX5_leaf_228 rfl ?_
                refine lv_iadd E.1 E.2.1 dX5_leaf_229 ?_
                obtain ⟨hin, hw⟩ := hw
                refine tw_iast E hK hT hS 3 rfl hin dX5_leaf_230 (fun H locs hT hS => ?_)
                obtain ⟨z33, ez33⟩ : ∃ y, y = uf z32 3 (((nI 7) * (sx z32 31)) + (nI 3)).toNatClampNeg ((sf z32 3 (((nI 7) * (sx z32 31)) + (nI 3)).toNatClampNeg) + (nI 1)) := ⟨_, rfl⟩
                rw [← ez33] at hT
                replace hw := hw z33 ez33
                exact jh24 _ _ hw _ _ _ hT hS (lv_sub hl [2, 3, 0] rfl)
            · replace hw := hw.2 (c22)
              refine lv_iconst (v := nI 0) E.1 E.2.1 dX5_leaf_163 rfl ?_
              exact tw_ireti E hr hlocks hT hS hw dX5_leaf_164
          refine lv_aload_n E.1 E.2.1 dX5_leaf_107 rfl (lv_at hl 0 rfl) ?_
          refine tw_get E hK hT 48 (Nat.le_of_ble_eq_true rfl) q1858 rfl (v := .int (sx z16 48)) rfl dX5_leaf_108 ?_
          refine lv_if_ne (tgt := 146) E.1 E.2.1 dX5_leaf_111 (by decide) (fun c35 => ?_) (fun c35 => ?_)
          · replace hw := hw.1 (c35)
            exact jh18 _ hw _ _ _ hT hS (lv_sub hl [0, 1, 2, 3] rfl)
          · replace hw := hw.2 (c35)
            refine lv_iload E.1 E.2.1 dX5_leaf_114 (lv_at hl 3 rfl) ?_
            refine lv_if_lt (tgt := 146) E.1 E.2.1 dX5_leaf_116 (by decide) (fun c36 => ?_) (fun c36 => ?_)
            · replace hw := hw.1 (c36)
              exact jh18 _ hw _ _ _ hT hS (lv_sub hl [0, 1, 2, 3] rfl)
            · replace hw := hw.2 (c36)
              refine lv_aload_n E.1 E.2.1 dX5_leaf_119 rfl (lv_at hl 0 rfl) ?_
              refine tw_get E hK hT 19 (Nat.le_of_ble_eq_true rfl) q1829 rfl (v := .ref (ta 19)) rfl dX5_leaf_120 ?_
              refine lv_bipush (v := nI 16) E.1 E.2.1 dX5_leaf_123 rfl ?_
              refine lv_aload_n E.1 E.2.1 dX5_leaf_125 rfl (lv_at hl 0 rfl) ?_
              refine tw_get E hK hT 31 (Nat.le_of_ble_eq_true rfl) q1841 rfl (v := .int (sx z16 31)) rfl dX5_leaf_126 ?_
              refine lv_imul E.1 E.2.1 dX5_leaf_129 ?_
              refine lv_iload E.1 E.2.1 dX5_leaf_130 (lv_at hl 3 rfl) ?_
              refine lv_iadd E.1 E.2.1 dX5_leaf_132 ?_
              obtain ⟨hin, hw⟩ := hw
              refine tw_iald E hK hT 19 rfl hin dX5_leaf_133 ?_
              refine lv_aload_n E.1 E.2.1 dX5_leaf_134 rfl (lv_at hl 0 rfl) ?_
              refine tw_get E hK hT 47 (Nat.le_of_ble_eq_true rfl) q1857 rfl (v := .int (sx z16 47)) rfl dX5_leaf_135 ?_
              refine lv_icmp_eq (tgt := 146) E.1 E.2.1 dX5_leaf_138 (by decide) (fun c37 => ?_) (fun c37 => ?_)
              · replace hw := hw.1 (c37)
                exact jh18 _ hw _ _ _ hT hS (lv_sub hl [0, 1, 2, 3] rfl)
              · replace hw := hw.2 (c37)
                refine lv_aload_n E.1 E.2.1 dX5_leaf_141 rfl (lv_at hl 0 rfl) ?_
                refine lv_iconst (v := nI 3) E.1 E.2.1 dX5_leaf_142 rfl ?_
                refine tw_callVv E hK hT hS (As := [.int (nI 3)]) (rest := []) (met_wrong l G ta (d + 8) hw) (cwV 1 E.2.2.2.2 (lw_V q2113 q2115 qs66 q128 q2116) rfl rfl rfl hd_wrong (rm_ok (by omega) (by decide))) rfl rfl hl.1 (Nat.le_of_ble_eq_true rfl) dX5_leaf_143 (fun z38 H locs hw hT hS => ?_)
                exact jh18 _ hw _ _ _ hT hS (lv_sub hl [0, 1, 2, 3] rfl)
        refine lv_aload_n E.1 E.2.1 dX5_leaf_81 rfl (lv_at hl 0 rfl) ?_
        refine tw_get E hK hT 48 (Nat.le_of_ble_eq_true rfl) q1858 rfl (v := .int (sx z13 48)) rfl dX5_leaf_82 ?_
        refine lv_if_ne (tgt := 107) E.1 E.2.1 dX5_leaf_85 (by decide) (fun c40 => ?_) (fun c40 => ?_)
        · replace hw := hw.1 (c40)
          exact jh15 _ hw _ _ _ hT hS (lv_sub hl [0, 1, 2, 3] rfl)
        · replace hw := hw.2 (c40)
          refine lv_aload_n E.1 E.2.1 dX5_leaf_88 rfl (lv_at hl 0 rfl) ?_
          refine tw_get E hK hT 47 (Nat.le_of_ble_eq_true rfl) q1857 rfl (v := .int (sx z13 47)) rfl dX5_leaf_89 ?_
          refine lv_iconst (v := nI 1) E.1 E.2.1 dX5_leaf_92 rfl ?_
          refine lv_sipush (v := nI 999) E.1 E.2.1 dX5_leaf_93 rfl ?_
          refine tw_callSz E hK hT hS (As := [.int (sx z13 47), .int (nI 1), .int (nI 999)]) (rest := []) (met_within l G ta (d + 9) hw) (va_cwS 3 E.2.2.2.2 (lw_S q2048 q2049 q128 q2050) rfl rfl rfl hs_within (rm_ok (by omega) (by decide))) rfl rfl hl.1 (Nat.le_of_ble_eq_true rfl) dX5_leaf_96 (fun b42 z41 H locs hw hT hS => ?_)
          refine lv_if_ne (tgt := 107) E.1 E.2.1 dX5_leaf_99 (by decide) (fun c43 => ?_) (fun c43 => ?_)
          · replace hw := hw.1 (bi_n c43)
            exact jh15 _ hw _ _ _ hT hS (lv_sub hl [0, 1, 2, 3] rfl)
          · replace hw := hw.2 (bi_z c43)
            refine lv_aload_n E.1 E.2.1 dX5_leaf_102 rfl (lv_at hl 0 rfl) ?_
            refine lv_iconst (v := nI 2) E.1 E.2.1 dX5_leaf_103 rfl ?_
            refine tw_callVv E hK hT hS (As := [.int (nI 2)]) (rest := []) (met_wrong l G ta (d + 8) hw) (cwV 1 E.2.2.2.2 (lw_V q2113 q2115 qs66 q128 q2116) rfl rfl rfl hd_wrong (rm_ok (by omega) (by decide))) rfl rfl hl.1 (Nat.le_of_ble_eq_true rfl) dX5_leaf_104 (fun z44 H locs hw hT hS => ?_)
            exact jh15 _ hw _ _ _ hT hS (lv_sub hl [0, 1, 2, 3] rfl)
      refine lv_aload_n E.1 E.2.1 dX5_leaf_57 rfl (lv_at hl 0 rfl) ?_
      refine tw_callVv E hK hT hS (As := []) (rest := []) (met_next l G ta (d + 6) hw) (cwV 0 E.2.2.2.2 (lw_V q2055 q2057 qs59 q128 q2058) rfl rfl rfl hd_next (rm_ok (by omega) (by decide))) rfl rfl hl.1 (Nat.le_of_ble_eq_true rfl) dX5_leaf_58 (fun z46 H locs hw hT hS => ?_)
      refine lv_aload_n E.1 E.2.1 dX5_leaf_61 rfl (lv_at hl 0 rfl) ?_
      refine tw_get E hK hT 48 (Nat.le_of_ble_eq_true rfl) q1858 rfl (v := .int (sx z46 48)) rfl dX5_leaf_62 ?_
      refine lv_if_ne (tgt := 81) E.1 E.2.1 dX5_leaf_65 (by decide) (fun c47 => ?_) (fun c47 => ?_)
      · replace hw := hw.1 (c47)
        exact jh12 _ hw _ _ _ hT hS (lv_sub hl [0, 1, 2, 3] rfl)
      · replace hw := hw.2 (c47)
        refine lv_aload_n E.1 E.2.1 dX5_leaf_68 rfl (lv_at hl 0 rfl) ?_
        refine tw_get E hK hT 45 (Nat.le_of_ble_eq_true rfl) q1855 rfl (v := .int (sx z46 45)) rfl dX5_leaf_69 ?_
        refine lv_iconst (v := nI 3) E.1 E.2.1 dX5_leaf_72 rfl ?_
        refine lv_icmp_eq (tgt := 81) E.1 E.2.1 dX5_leaf_73 (by decide) (fun c48 => ?_) (fun c48 => ?_)
        · replace hw := hw.1 (c48)
          exact jh12 _ hw _ _ _ hT hS (lv_sub hl [0, 1, 2, 3] rfl)
        · replace hw := hw.2 (c48)
          refine lv_aload_n E.1 E.2.1 dX5_leaf_76 rfl (lv_at hl 0 rfl) ?_
          refine lv_iconst (v := nI 1) E.1 E.2.1 dX5_leaf_77 rfl ?_
          refine tw_callVv E hK hT hS (As := [.int (nI 1)]) (rest := []) (met_wrong l G ta (d + 8) hw) (cwV 1 E.2.2.2.2 (lw_V q2113 q2115 qs66 q128 q2116) rfl rfl rfl hd_wrong (rm_ok (by omega) (by decide))) rfl rfl hl.1 (Nat.le_of_ble_eq_true rfl) dX5_leaf_78 (fun z49 H locs hw hT hS => ?_)
          exact jh12 _ hw _ _ _ hT hS (lv_sub hl [0, 1, 2, 3] rfl)
    refine lv_aload_n E.1 E.2.1 dX5_leaf_23 rfl (lv_at hl 2 rfl) ?_
    refine lv_aload_n E.1 E.2.1 dX5_leaf_24 rfl (lv_at hl 2 rfl) ?_
    refine tw_get E hK hT 31 (Nat.le_of_ble_eq_true rfl) q1841 rfl (v := .int (sx z4 31)) rfl dX5_leaf_25 ?_
    refine lv_lload_n E.1 E.2.1 dX5_leaf_28 rfl (lv_at hl 0 rfl) ?_
    refine tw_callVi E hK hT hS (As := [.int (sx z4 31), .long (w5)]) (rest := []) (met_classOf l G ta (d + 8) hw) (cwV 2 E.2.2.2.2 (lw_V q2215 q2217 qs86 q128 q2218) rfl rfl rfl hd_classOf (rm_ok (by omega) (by decide))) rfl rfl hl.1 (Nat.le_of_ble_eq_true rfl) dX5_leaf_29 (fun r52 z51 H locs hw hT hS => ?_)
    refine lv_istore (lv' := [(4, .int (r52)), (2, .long (w5)), (1, .int (r2)), (0, .ref (ta 73))]) E.1 E.2.1 dX5_leaf_32 hl (Nat.le_of_ble_eq_true rfl) rfl (fun ls hl => ?_)
    refine lv_iload E.1 E.2.1 dX5_leaf_34 (lv_at hl 0 rfl) ?_
    refine lv_if_ge (tgt := 57) E.1 E.2.1 dX5_leaf_36 (by decide) (fun c53 => ?_) (fun c53 => ?_)
    · replace hw := hw.1 (c53)
      exact jh8 _ _ hw _ _ _ hT hS (lv_sub hl [3, 2, 1, 0] rfl)
    · replace hw := hw.2 (c53)
      refine lv_aload_n E.1 E.2.1 dX5_leaf_39 rfl (lv_at hl 3 rfl) ?_
      refine lv_aload_n E.1 E.2.1 dX5_leaf_40 rfl (lv_at hl 3 rfl) ?_
      refine tw_get E hK hT 31 (Nat.le_of_ble_eq_true rfl) q1841 rfl (v := .int (sx z51 31)) rfl dX5_leaf_41 ?_
      refine tw_callVi E hK hT hS (As := [.int (sx z51 31)]) (rest := []) (met_classes l G ta (d + 9) hw) (cwV 1 E.2.2.2.2 (lw_V q2219 q2221 qs87 q128 q2222) rfl rfl rfl hd_classes (rm_ok (by omega) (by decide))) rfl rfl hl.1 (Nat.le_of_ble_eq_true rfl) dX5_leaf_44 (fun r55 z54 H locs hw hT hS => ?_)
      refine lv_bipush (v := nI 16) E.1 E.2.1 dX5_leaf_47 rfl ?_
      refine lv_icmp_ne (tgt := 57) E.1 E.2.1 dX5_leaf_49 (by decide) (fun c56 => ?_) (fun c56 => ?_)
      · replace hw := hw.1 (c56)
        exact jh8 _ _ hw _ _ _ hT hS (lv_sub hl [3, 2, 1, 0] rfl)
      · replace hw := hw.2 (c56)
        refine lv_aload_n E.1 E.2.1 dX5_leaf_52 rfl (lv_at hl 3 rfl) ?_
        refine lv_iconst (v := nI 4) E.1 E.2.1 dX5_leaf_53 rfl ?_
        refine tw_callVv E hK hT hS (As := [.int (nI 4)]) (rest := []) (met_wrong l G ta (d + 8) hw) (cwV 1 E.2.2.2.2 (lw_V q2113 q2115 qs66 q128 q2116) rfl rfl rfl hd_wrong (rm_ok (by omega) (by decide))) rfl rfl hl.1 (Nat.le_of_ble_eq_true rfl) dX5_leaf_54 (fun z57 H locs hw hT hS => ?_)
        exact jh8 _ _ hw _ _ _ hT hS (lv_sub hl [3, 2, 1, 0] rfl)
  · replace hw := hw.2 (c6)
    refine lv_iconst (v := nI 0) E.1 E.2.1 dX5_leaf_21 rfl ?_
    exact tw_ireti E hr hlocks hT hS hw dX5_leaf_22
/-- mustWord(Ljava/lang/String;)V -/
def wp_mustWord (post : TS → Prop) (z0 : TS) (k1 : Nat) : Prop := ∃ J1 : TS → Prop, (∀ (z3 : TS), J1 z3  → wp_next (fun z4 => post z4) z3) ∧ ((¬ (sx z0 48) = 0 → J1 z0 ) ∧ ((sx z0 48) = 0 → wp_isWord (fun b7 z6 => (b7 = true → J1 z6 ) ∧ (b7 = false → wp_wrong (fun z9 => J1 z9 ) z6 (nI 1))) z0 k1))
theorem hd_mustWord : yX5_mustWord.cls = RX5 ∧ yX5_mustWord.cls ≠ "java/lang/invoke/MethodHandle" ∧ yX5_mustWord.cls ≠ "java/lang/invoke/VarHandle" ∧ (parseMethodDescriptor yX5_mustWord.desc).map (fun d => d.parameters.length) = some 1 := by decide +kernel
set_option maxHeartbeats 4000000 in
theorem met_mustWord (l : Launch) (G : GP) (ta : Nat → Nat) (d : Nat) {post : TS → Prop} {z0 : TS} {k1 : Nat} (hw : wp_mustWord post z0 k1) : Met l yX5_mustWord (ws_ yX5_mustWord cX5_mustWord 2 none) (rmd (d + 8) 0 0) (tPc G ta z0 [.ref (ta 73), .ref (gK G k1)]) (tQv G ta post) 0 0 (TA ta) := by
  unfold wp_mustWord at hw
  refine tw_met (by decide) rfl (Nat.le_of_ble_eq_true rfl) ?_
  intro p e s m args below meth c ls E hr hlocks hK hT hS hl
  replace hl : lv_has ls 2 [(0, .ref (ta 73)), (1, .ref (gK G k1))] := hl
  obtain ⟨J1, hj10, hw⟩ := hw
  have jh2 : ∀ (z3 : TS), J1 z3  → ∀ (H : Heap) (locs : List Loc) (ls : Array Slot), TW G ta z3 H → va_S (TA ta) s.heap H locs → lv_has ls 2 [(0, .ref (ta 73))] → W p l e (rmd (d + 8) 0 0) s m args below meth c H locs 0 0 (MQ below (tQv G ta post) args s 0 0 (TA ta)) (F0 m 20 ls []) := by
    intro z3 hw H locs ls hT hS hl
    replace hw := hj10 z3 hw
    refine lv_aload_n E.1 E.2.1 dX5_mustWord_20 rfl (lv_at hl 0 rfl) ?_
    refine tw_callVv E hK hT hS (As := []) (rest := []) (met_next l G ta (d + 4) hw) (cwV 0 E.2.2.2.2 (lw_V q2055 q2057 qs59 q128 q2058) rfl rfl rfl hd_next (rm_ok (by omega) (by decide))) rfl rfl hl.1 (Nat.le_of_ble_eq_true rfl) dX5_mustWord_21 (fun z4 H locs hw hT hS => ?_)
    exact tw_vret E hr hlocks hT hS hw dX5_mustWord_24
  refine lv_aload_n E.1 E.2.1 dX5_mustWord_0 rfl (lv_at hl 0 rfl) ?_
  refine tw_get E hK hT 48 (Nat.le_of_ble_eq_true rfl) q1858 rfl (v := .int (sx z0 48)) rfl dX5_mustWord_1 ?_
  refine lv_if_ne (tgt := 20) E.1 E.2.1 dX5_mustWord_4 (by decide) (fun c5 => ?_) (fun c5 => ?_)
  · replace hw := hw.1 (c5)
    exact jh2 _ hw _ _ _ hT hS (lv_sub hl [0] rfl)
  · replace hw := hw.2 (c5)
    refine lv_aload_n E.1 E.2.1 dX5_mustWord_7 rfl (lv_at hl 0 rfl) ?_
    refine lv_aload_n E.1 E.2.1 dX5_mustWord_8 rfl (lv_at hl 1 rfl) ?_
    refine tw_callVz E hK hT hS (As := [.ref (gK G k1)]) (rest := []) (met_isWord l G ta (d) hw) (cwV 1 E.2.2.2.2 (lw_V q2079 q2081 qs63 q128 q2082) rfl rfl rfl hd_isWord (rm_ok (by omega) (by decide))) rfl rfl hl.1 (Nat.le_of_ble_eq_true rfl) dX5_mustWord_9 (fun b7 z6 H locs hw hT hS => ?_)
    refine lv_if_ne (tgt := 20) E.1 E.2.1 dX5_mustWord_12 (by decide) (fun c8 => ?_) (fun c8 => ?_)
    · replace hw := hw.1 (bi_n c8)
      exact jh2 _ hw _ _ _ hT hS (lv_sub hl [0] rfl)
    · replace hw := hw.2 (bi_z c8)
      refine lv_aload_n E.1 E.2.1 dX5_mustWord_15 rfl (lv_at hl 0 rfl) ?_
      refine lv_iconst (v := nI 1) E.1 E.2.1 dX5_mustWord_16 rfl ?_
      refine tw_callVv E hK hT hS (As := [.int (nI 1)]) (rest := []) (met_wrong l G ta (d + 6) hw) (cwV 1 E.2.2.2.2 (lw_V q2113 q2115 qs66 q128 q2116) rfl rfl rfl hd_wrong (rm_ok (by omega) (by decide))) rfl rfl hl.1 (Nat.le_of_ble_eq_true rfl) dX5_mustWord_17 (fun z9 H locs hw hT hS => ?_)
      exact jh2 _ hw _ _ _ hT hS (lv_sub hl [0] rfl)
/-- node()I -/
def wb_node (rc : (Int32 → TS → Prop) → TS → Prop) (post : Int32 → TS → Prop) (z0 : TS) : Prop := ((sx z0 48) ≤ 0 → wp_isSign (fun b3 z2 => (b3 = false → wp_isWord (fun b6 z5 => (b6 = false → wp_isWord (fun b9 z8 => (b9 = true → wp_newNode (fun r12 z11 => wp_opens (fun z13 => ((sx z13 48) ≤ 0 → ∀ x15, x15 = ((nI 40) * (sx z13 31)) + r12 → vp_in (x15) 120 ∧ ∀ z16, z16 = uf z13 20 x15.toNatClampNeg ((-1)) → wp_c3 d_c3 0 (fun r18 z17 => wp_mustWord (fun z19 => rc (fun r21 z20 => wp_mustWord (fun z22 => rc (fun r24 z23 => ∀ z25, z25 = ux z23 60 ((sx z23 60) - (nI 1)) → vp_in (x15) 120 ∧ ∀ z26, z26 = uf z25 21 x15.toNatClampNeg r18 → vp_in (x15) 120 ∧ ∀ z27, z27 = uf z26 22 x15.toNatClampNeg r21 → vp_in (x15) 120 ∧ ∀ z28, z28 = uf z27 23 x15.toNatClampNeg r24 → post r12 z28) z22) z20 7) z19) z17 16) z16) ∧ (¬ (sx z13 48) ≤ 0 → post (nI 0) z13)) z11) z8) ∧ (b9 = false → wp_wrong (fun z29 => post (nI 0) z29) z8 (nI 1))) z5 9) ∧ (b6 = true → wp_leaf (fun r31 z30 => post r31 z30) z5)) z2 4) ∧ (b3 = true → wp_opens (fun z32 => rc (fun r34 z33 => wp_mustSign (fun z35 => ∀ z36, z36 = ux z35 60 ((sx z35 60) - (nI 1)) → post r34 z36) z33 (nI 41)) z32) z2)) z0 (nI 40)) ∧ (¬ (sx z0 48) ≤ 0 → post (nI 0) z0)
theorem hd_node : yX5_node.cls = RX5 ∧ yX5_node.cls ≠ "java/lang/invoke/MethodHandle" ∧ yX5_node.cls ≠ "java/lang/invoke/VarHandle" ∧ (parseMethodDescriptor yX5_node.desc).map (fun d => d.parameters.length) = some 0 := by decide +kernel
def wp_node : Nat → (Int32 → TS → Prop) → TS → Prop
  | 0 => fun _ _ => False
  | k + 1 => wb_node (wp_node k)
def d_node : Nat := 11
set_option maxHeartbeats 4000000 in
theorem met_node (l : Launch) (G : GP) (ta : Nat → Nat) (d : Nat) : ∀ (k : Nat) {post : Int32 → TS → Prop} {z0 : TS}, wp_node k post z0 → Met l yX5_node (ws_ yX5_node cX5_node 6 (some .int)) (rmd (d + k + 52) 0 0) (tPc G ta z0 [.ref (ta 73)]) (tQi G ta post) 0 0 (TA ta) := by
  intro k
  induction k with
  | zero => intro post z0 hw; exact hw.elim
  | succ k ih =>
    intro post z0 hw
    replace hw : wb_node (wp_node k) post z0 := hw
    have hD_c3 : d_c3 = 41 := rfl
    unfold wb_node at hw
    refine tw_met (by decide) rfl (Nat.le_of_ble_eq_true rfl) ?_
    intro p e s m args below meth c ls E hr hlocks hK hT hS hl
    replace hl : lv_has ls 6 [(0, .ref (ta 73))] := hl
    refine lv_aload_n E.1 E.2.1 dX5_node_0 rfl (lv_at hl 0 rfl) ?_
    refine tw_get E hK hT 48 (Nat.le_of_ble_eq_true rfl) q1858 rfl (v := .int (sx z0 48)) rfl dX5_node_1 ?_
    refine lv_if_le (tgt := 9) E.1 E.2.1 dX5_node_4 (by decide) (fun c1 => ?_) (fun c1 => ?_)
    · replace hw := hw.1 (c1)
      refine lv_aload_n E.1 E.2.1 dX5_node_9 rfl (lv_at hl 0 rfl) ?_
      refine lv_bipush (v := nI 40) E.1 E.2.1 dX5_node_10 rfl ?_
      refine tw_callVz E hK hT hS (As := [.int (nI 40)]) (rest := []) (met_isSign l G ta (d + k + 52) hw) (cwV 1 E.2.2.2.2 (lw_V q2159 q2161 qs72 q128 q2162) rfl rfl rfl hd_isSign (rm_ok (by omega) (by decide))) rfl rfl hl.1 (Nat.le_of_ble_eq_true rfl) dX5_node_12 (fun b3 z2 H locs hw hT hS => ?_)
      refine lv_if_eq (tgt := 45) E.1 E.2.1 dX5_node_15 (by decide) (fun c4 => ?_) (fun c4 => ?_)
      · replace hw := hw.1 (bi_z c4)
        refine lv_aload_n E.1 E.2.1 dX5_node_45 rfl (lv_at hl 0 rfl) ?_
        refine tw_ldcS E hK 37 4 rfl dX5_node_46 ?_
        refine tw_callVz E hK hT hS (As := [.ref (gK G 4)]) (rest := []) (met_isWord l G ta (d + k + 45) hw) (cwV 1 E.2.2.2.2 (lw_V q2079 q2081 qs63 q128 q2082) rfl rfl rfl hd_isWord (rm_ok (by omega) (by decide))) rfl rfl hl.1 (Nat.le_of_ble_eq_true rfl) dX5_node_48 (fun b6 z5 H locs hw hT hS => ?_)
        refine lv_if_eq (tgt := 59) E.1 E.2.1 dX5_node_51 (by decide) (fun c7 => ?_) (fun c7 => ?_)
        · replace hw := hw.1 (bi_z c7)
          refine lv_aload_n E.1 E.2.1 dX5_node_59 rfl (lv_at hl 0 rfl) ?_
          refine tw_ldcSw E hK 38 9 rfl dX5_node_60 ?_
          refine tw_callVz E hK hT hS (As := [.ref (gK G 9)]) (rest := []) (met_isWord l G ta (d + k + 45) hw) (cwV 1 E.2.2.2.2 (lw_V q2079 q2081 qs63 q128 q2082) rfl rfl rfl hd_isWord (rm_ok (by omega) (by decide))) rfl rfl hl.1 (Nat.le_of_ble_eq_true rfl) dX5_node_63 (fun b9 z8 H locs hw hT hS => ?_)
          refine lv_if_ne (tgt := 76) E.1 E.2.1 dX5_node_66 (by decide) (fun c10 => ?_) (fun c10 => ?_)
          · replace hw := hw.1 (bi_n c10)
            refine lv_aload_n E.1 E.2.1 dX5_node_76 rfl (lv_at hl 0 rfl) ?_
            refine tw_callVi E hK hT hS (As := []) (rest := []) (met_newNode l G ta (d + k + 50) hw) (cwV 0 E.2.2.2.2 (lw_V q2207 q2209 qs84 q128 q2210) rfl rfl rfl hd_newNode (rm_ok (by omega) (by decide))) rfl rfl hl.1 (Nat.le_of_ble_eq_true rfl) dX5_node_77 (fun r12 z11 H locs hw hT hS => ?_)
            refine lv_istore_n (lv' := [(1, .int (r12)), (0, .ref (ta 73))]) E.1 E.2.1 dX5_node_80 rfl hl (Nat.le_of_ble_eq_true rfl) rfl (fun ls hl => ?_)
            refine lv_aload_n E.1 E.2.1 dX5_node_81 rfl (lv_at hl 1 rfl) ?_
            refine tw_callVv E hK hT hS (As := []) (rest := []) (met_opens l G ta (d + k + 48) hw) (cwV 0 E.2.2.2.2 (lw_V q2195 q2197 qs81 q128 q2198) rfl rfl rfl hd_opens (rm_ok (by omega) (by decide))) rfl rfl hl.1 (Nat.le_of_ble_eq_true rfl) dX5_node_82 (fun z13 H locs hw hT hS => ?_)
            refine lv_aload_n E.1 E.2.1 dX5_node_85 rfl (lv_at hl 1 rfl) ?_
            refine tw_get E hK hT 48 (Nat.le_of_ble_eq_true rfl) q1858 rfl (v := .int (sx z13 48)) rfl dX5_node_86 ?_
            refine lv_if_le (tgt := 94) E.1 E.2.1 dX5_node_89 (by decide) (fun c14 => ?_) (fun c14 => ?_)
            · replace hw := hw.1 (c14)
              refine lv_bipush (v := nI 40) E.1 E.2.1 dX5_node_94 rfl ?_
              refine lv_aload_n E.1 E.2.1 dX5_node_96 rfl (lv_at hl 1 rfl) ?_
              refine tw_get E hK hT 31 (Nat.le_of_ble_eq_true rfl) q1841 rfl (v := .int (sx z13 31)) rfl dX5_node_97 ?_
              refine lv_imul E.1 E.2.1 dX5_node_100 ?_
              refine lv_iload_n E.1 E.2.1 dX5_node_101 rfl (lv_at hl 0 rfl) ?_
              refine lv_iadd E.1 E.2.1 dX5_node_102 ?_
              refine lv_topi (fun x15 ex15 => ?_)
              replace hw := hw x15 ex15
              refine lv_istore_n (lv' := [(2, .int (x15)), (1, .int (r12)), (0, .ref (ta 73))]) E.1 E.2.1 dX5_node_103 rfl hl (Nat.le_of_ble_eq_true rfl) rfl (fun ls hl => ?_)
              refine lv_aload_n E.1 E.2.1 dX5_node_104 rfl (lv_at hl 2 rfl) ?_
              refine tw_get E hK hT 20 (Nat.le_of_ble_eq_true rfl) q1830 rfl (v := .ref (ta 20)) rfl dX5_node_105 ?_
              refine lv_iload_n E.1 E.2.1 dX5_node_108 rfl (lv_at hl 0 rfl) ?_
              refine lv_iconst (v := (-1)) E.1 E.2.1 dX5_node_109 rfl ?_
              obtain ⟨hin, hw⟩ := hw
              refine tw_iast E hK hT hS 20 rfl hin dX5_node_110 (fun H locs hT hS => ?_)
              obtain ⟨z16, ez16⟩ : ∃ y, y = uf z13 20 x15.toNatClampNeg ((-1)) := ⟨_, rfl⟩
              rw [← ez16] at hT
              replace hw := hw z16 ez16
              refine lv_aload_n E.1 E.2.1 dX5_node_111 rfl (lv_at hl 2 rfl) ?_
              refine tw_callVi E hK hT hS (As := []) (rest := []) (met_cond l G ta (d + k + 1) d_c3 hw) (cwV 0 E.2.2.2.2 (lw_V q2223 q2225 qs88 q128 q2226) rfl rfl rfl hd_cond (rm_ok (by omega) (by decide))) rfl rfl hl.1 (Nat.le_of_ble_eq_true rfl) dX5_node_112 (fun r18 z17 H locs hw hT hS => ?_)
              refine lv_istore_n (lv' := [(3, .int (r18)), (2, .int (x15)), (1, .int (r12)), (0, .ref (ta 73))]) E.1 E.2.1 dX5_node_115 rfl hl (Nat.le_of_ble_eq_true rfl) rfl (fun ls hl => ?_)
              refine lv_aload_n E.1 E.2.1 dX5_node_116 rfl (lv_at hl 3 rfl) ?_
              refine tw_ldcSw E hK 39 16 rfl dX5_node_117 ?_
              refine tw_callVv E hK hT hS (As := [.ref (gK G 16)]) (rest := []) (met_mustWord l G ta (d + k + 44) hw) (cwV 1 E.2.2.2.2 (lw_V q2247 q2249 qs94 q128 q2250) rfl rfl rfl hd_mustWord (rm_ok (by omega) (by decide))) rfl rfl hl.1 (Nat.le_of_ble_eq_true rfl) dX5_node_120 (fun z19 H locs hw hT hS => ?_)
              refine lv_aload_n E.1 E.2.1 dX5_node_123 rfl (lv_at hl 3 rfl) ?_
              refine tw_callVi E hK hT hS (As := []) (rest := []) (ih hw) (cwV 0 E.2.2.2.2 (lw_V q2191 q2193 qs80 q128 q2194) rfl rfl rfl hd_node (rm_ok (by omega) (by decide))) rfl rfl hl.1 (Nat.le_of_ble_eq_true rfl) dX5_node_124 (fun r21 z20 H locs hw hT hS => ?_)
              refine lv_istore (lv' := [(4, .int (r21)), (3, .int (r18)), (2, .int (x15)), (1, .int (r12)), (0, .ref (ta 73))]) E.1 E.2.1 dX5_node_127 hl (Nat.le_of_ble_eq_true rfl) rfl (fun ls hl => ?_)
              refine lv_aload_n E.1 E.2.1 dX5_node_129 rfl (lv_at hl 4 rfl) ?_
              refine tw_ldcSw E hK 40 7 rfl dX5_node_130 ?_
              refine tw_callVv E hK hT hS (As := [.ref (gK G 7)]) (rest := []) (met_mustWord l G ta (d + k + 44) hw) (cwV 1 E.2.2.2.2 (lw_V q2247 q2249 qs94 q128 q2250) rfl rfl rfl hd_mustWord (rm_ok (by omega) (by decide))) rfl rfl hl.1 (Nat.le_of_ble_eq_true rfl) dX5_node_133 (fun z22 H locs hw hT hS => ?_)
              refine lv_aload_n E.1 E.2.1 dX5_node_136 rfl (lv_at hl 4 rfl) ?_
              refine tw_callVi E hK hT hS (As := []) (rest := []) (ih hw) (cwV 0 E.2.2.2.2 (lw_V q2191 q2193 qs80 q128 q2194) rfl rfl rfl hd_node (rm_ok (by omega) (by decide))) rfl rfl hl.1 (Nat.le_of_ble_eq_true rfl) dX5_node_137 (fun r24 z23 H locs hw hT hS => ?_)
              refine lv_istore (lv' := [(5, .int (r24)), (4, .int (r21)), (3, .int (r18)), (2, .int (x15)), (1, .int (r12)), (0, .ref (ta 73))]) E.1 E.2.1 dX5_node_140 hl (Nat.le_of_ble_eq_true rfl) rfl (fun ls hl => ?_)
              refine lv_aload_n E.1 E.2.1 dX5_node_142 rfl (lv_at hl 5 rfl) ?_
              refine lv_dup E.1 E.2.1 dX5_node_143 rfl ?_
              refine tw_get E hK hT 60 (Nat.le_of_ble_eq_true rfl) q1870 rfl (v := .int (sx z23 60)) rfl dX5_node_144 ?_
              refine lv_iconst (v := nI 1) E.1 E.2.1 dX5_node_147 rfl ?_
              refine lv_isub E.1 E.2.1 dX5_node_148 ?_
              refine tw_puti E hK hT hS 60 (Nat.le_of_ble_eq_true rfl) q1870 rfl rfl rfl rfl dX5_node_149 (fun H locs hT hS => ?_)
              obtain ⟨z25, ez25⟩ : ∃ y, y = ux z23 60 ((sx z23 60) - (nI 1)) := ⟨_, rfl⟩
              rw [← ez25] at hT
              replace hw := hw z25 ez25
              refine lv_aload_n E.1 E.2.1 dX5_node_152 rfl (lv_at hl 5 rfl) ?_
              refine tw_get E hK hT 21 (Nat.le_of_ble_eq_true rfl) q1831 rfl (v := .ref (ta 21)) rfl dX5_node_153 ?_
              refine lv_iload_n E.1 E.2.1 dX5_node_156 rfl (lv_at hl 3 rfl) ?_
              refine lv_iload_n E.1 E.2.1 dX5_node_157 rfl (lv_at hl 2 rfl) ?_
              obtain ⟨hin, hw⟩ := hw
              refine tw_iast E hK hT hS 21 rfl hin dX5_node_158 (fun H locs hT hS => ?_)
              obtain ⟨z26, ez26⟩ : ∃ y, y = uf z25 21 x15.toNatClampNeg r18 := ⟨_, rfl⟩
              rw [← ez26] at hT
              replace hw := hw z26 ez26
              refine lv_aload_n E.1 E.2.1 dX5_node_159 rfl (lv_at hl 5 rfl) ?_
              refine tw_get E hK hT 22 (Nat.le_of_ble_eq_true rfl) q1832 rfl (v := .ref (ta 22)) rfl dX5_node_160 ?_
              refine lv_iload_n E.1 E.2.1 dX5_node_163 rfl (lv_at hl 3 rfl) ?_
              refine lv_iload E.1 E.2.1 dX5_node_164 (lv_at hl 1 rfl) ?_
              obtain ⟨hin, hw⟩ := hw
              refine tw_iast E hK hT hS 22 rfl hin dX5_node_166 (fun H locs hT hS => ?_)
              obtain ⟨z27, ez27⟩ : ∃ y, y = uf z26 22 x15.toNatClampNeg r21 := ⟨_, rfl⟩
              rw [← ez27] at hT
              replace hw := hw z27 ez27
              refine lv_aload_n E.1 E.2.1 dX5_node_167 rfl (lv_at hl 5 rfl) ?_
              refine tw_get E hK hT 23 (Nat.le_of_ble_eq_true rfl) q1833 rfl (v := .ref (ta 23)) rfl dX5_node_168 ?_
              refine lv_iload_n E.1 E.2.1 dX5_node_171 rfl (lv_at hl 3 rfl) ?_
              refine lv_iload E.1 E.2.1 dX5_node_172 (lv_at hl 0 rfl) ?_
              obtain ⟨hin, hw⟩ := hw
              refine tw_iast E hK hT hS 23 rfl hin dX5_node_174 (fun H locs hT hS => ?_)
              obtain ⟨z28, ez28⟩ : ∃ y, y = uf z27 23 x15.toNatClampNeg r24 := ⟨_, rfl⟩
              rw [← ez28] at hT
              replace hw := hw z28 ez28
              refine lv_iload_n E.1 E.2.1 dX5_node_175 rfl (lv_at hl 4 rfl) ?_
              exact tw_ireti E hr hlocks hT hS hw dX5_node_176
            · replace hw := hw.2 (c14)
              refine lv_iconst (v := nI 0) E.1 E.2.1 dX5_node_92 rfl ?_
              exact tw_ireti E hr hlocks hT hS hw dX5_node_93
          · replace hw := hw.2 (bi_z c10)
            refine lv_aload_n E.1 E.2.1 dX5_node_69 rfl (lv_at hl 0 rfl) ?_
            refine lv_iconst (v := nI 1) E.1 E.2.1 dX5_node_70 rfl ?_
            refine tw_callVv E hK hT hS (As := [.int (nI 1)]) (rest := []) (met_wrong l G ta (d + k + 51) hw) (cwV 1 E.2.2.2.2 (lw_V q2113 q2115 qs66 q128 q2116) rfl rfl rfl hd_wrong (rm_ok (by omega) (by decide))) rfl rfl hl.1 (Nat.le_of_ble_eq_true rfl) dX5_node_71 (fun z29 H locs hw hT hS => ?_)
            refine lv_iconst (v := nI 0) E.1 E.2.1 dX5_node_74 rfl ?_
            exact tw_ireti E hr hlocks hT hS hw dX5_node_75
        · replace hw := hw.2 (bi_n c7)
          refine lv_aload_n E.1 E.2.1 dX5_node_54 rfl (lv_at hl 0 rfl) ?_
          refine tw_callVi E hK hT hS (As := []) (rest := []) (met_leaf l G ta (d + k + 42) hw) (cwV 0 E.2.2.2.2 (lw_V q2203 q2205 qs83 q128 q2206) rfl rfl rfl hd_leaf (rm_ok (by omega) (by decide))) rfl rfl hl.1 (Nat.le_of_ble_eq_true rfl) dX5_node_55 (fun r31 z30 H locs hw hT hS => ?_)
          exact tw_ireti E hr hlocks hT hS hw dX5_node_58
      · replace hw := hw.2 (bi_n c4)
        refine lv_aload_n E.1 E.2.1 dX5_node_18 rfl (lv_at hl 0 rfl) ?_
        refine tw_callVv E hK hT hS (As := []) (rest := []) (met_opens l G ta (d + k + 48) hw) (cwV 0 E.2.2.2.2 (lw_V q2195 q2197 qs81 q128 q2198) rfl rfl rfl hd_opens (rm_ok (by omega) (by decide))) rfl rfl hl.1 (Nat.le_of_ble_eq_true rfl) dX5_node_19 (fun z32 H locs hw hT hS => ?_)
        refine lv_aload_n E.1 E.2.1 dX5_node_22 rfl (lv_at hl 0 rfl) ?_
        refine tw_callVi E hK hT hS (As := []) (rest := []) (ih hw) (cwV 0 E.2.2.2.2 (lw_V q2191 q2193 qs80 q128 q2194) rfl rfl rfl hd_node (rm_ok (by omega) (by decide))) rfl rfl hl.1 (Nat.le_of_ble_eq_true rfl) dX5_node_23 (fun r34 z33 H locs hw hT hS => ?_)
        refine lv_istore_n (lv' := [(1, .int (r34)), (0, .ref (ta 73))]) E.1 E.2.1 dX5_node_26 rfl hl (Nat.le_of_ble_eq_true rfl) rfl (fun ls hl => ?_)
        refine lv_aload_n E.1 E.2.1 dX5_node_27 rfl (lv_at hl 1 rfl) ?_
        refine lv_bipush (v := nI 41) E.1 E.2.1 dX5_node_28 rfl ?_
        refine tw_callVv E hK hT hS (As := [.int (nI 41)]) (rest := []) (met_mustSign l G ta (d + k + 48) hw) (cwV 1 E.2.2.2.2 (lw_V q2199 q2201 qs82 q128 q2202) rfl rfl rfl hd_mustSign (rm_ok (by omega) (by decide))) rfl rfl hl.1 (Nat.le_of_ble_eq_true rfl) dX5_node_30 (fun z35 H locs hw hT hS => ?_)
        refine lv_aload_n E.1 E.2.1 dX5_node_33 rfl (lv_at hl 1 rfl) ?_
        refine lv_dup E.1 E.2.1 dX5_node_34 rfl ?_
        refine tw_get E hK hT 60 (Nat.le_of_ble_eq_true rfl) q1870 rfl (v := .int (sx z35 60)) rfl dX5_node_35 ?_
        refine lv_iconst (v := nI 1) E.1 E.2.1 dX5_node_38 rfl ?_
        refine lv_isub E.1 E.2.1 dX5_node_39 ?_
        refine tw_puti E hK hT hS 60 (Nat.le_of_ble_eq_true rfl) q1870 rfl rfl rfl rfl dX5_node_40 (fun H locs hT hS => ?_)
        obtain ⟨z36, ez36⟩ : ∃ y, y = ux z35 60 ((sx z35 60) - (nI 1)) := ⟨_, rfl⟩
        rw [← ez36] at hT
        replace hw := hw z36 ez36
        refine lv_iload_n E.1 E.2.1 dX5_node_43 rfl (lv_at hl 0 rfl) ?_
        exact tw_ireti E hr hlocks hT hS hw dX5_node_44
    · replace hw := hw.2 (c1)
      refine lv_iconst (v := nI 0) E.1 E.2.1 dX5_node_7 rfl ?_
      exact tw_ireti E hr hlocks hT hS hw dX5_node_8
/-- treeLine()V -/
def wp_treeLine (post : TS → Prop) (z0 : TS) : Prop := ∃ J1 : TS → Int32 → Prop, (∀ (z3 : TS) (x4 : Int32), J1 z3 x4 → ∃ J5 : TS → Int32 → Prop, (∀ (z7 : TS) (x8 : Int32), J5 z7 x8 → wp_next (fun z9 => ((sx z9 48) ≤ 0 → ∀ z11, z11 = ux z9 55 (nI 0) → ∀ z12, z12 = ux z11 59 (nI 0) → ∀ z13, z13 = ux z12 60 (nI 0) → ∀ z14, z14 = ux z13 61 x8 → wp_node d_node (fun r16 z15 => wp_lineEnds (fun z17 => (¬ (sx z17 48) = 0 → post z17) ∧ ((sx z17 48) = 0 → vp_in (((nI 6) * (sx z17 31)) + x8) 18 ∧ ∀ z19, z19 = uf z17 8 (((nI 6) * (sx z17 31)) + x8).toNatClampNeg r16 → post z19)) z15) z14) ∧ (¬ (sx z9 48) ≤ 0 → post z9)) z7) ∧ ((¬ (sx z3 48) = 0 → J5 z3 x4) ∧ ((sx z3 48) = 0 → ∃ J21 : TS → Prop, (∀ (z23 : TS), J21 z23  → wp_wrong (fun z24 => J5 z24 x4) z23 (nI 3)) ∧ ((x4 < 0 → J21 z3 ) ∧ (¬ x4 < 0 → vp_in (((nI 6) * (sx z3 31)) + x4) 18 ∧ ((sf z3 8 (((nI 6) * (sx z3 31)) + x4).toNatClampNeg) < 0 → J5 z3 x4) ∧ (¬ (sf z3 8 (((nI 6) * (sx z3 31)) + x4).toNatClampNeg) < 0 → J21 z3 )))))) ∧ (wp_next (fun z29 => wp_name (fun w31 z30 => ((sx z30 48) ≤ 0 → wp_chapterOf (fun r34 z33 => J1 z33 r34) z30 w31) ∧ (¬ (sx z30 48) ≤ 0 → J1 z30 ((-1)))) z29) z0)
theorem hd_treeLine : yX5_treeLine.cls = RX5 ∧ yX5_treeLine.cls ≠ "java/lang/invoke/MethodHandle" ∧ yX5_treeLine.cls ≠ "java/lang/invoke/VarHandle" ∧ (parseMethodDescriptor yX5_treeLine.desc).map (fun d => d.parameters.length) = some 0 := by decide +kernel
set_option maxHeartbeats 4000000 in
theorem met_treeLine (l : Launch) (G : GP) (ta : Nat → Nat) (d : Nat) {post : TS → Prop} {z0 : TS} (hw : wp_treeLine post z0) : Met l yX5_treeLine (ws_ yX5_treeLine cX5_treeLine 5 none) (rmd (d + 64) 0 0) (tPc G ta z0 [.ref (ta 73)]) (tQv G ta post) 0 0 (TA ta) := by
  have hD_node : d_node = 11 := rfl
  unfold wp_treeLine at hw
  refine tw_met (by decide) rfl (Nat.le_of_ble_eq_true rfl) ?_
  intro p e s m args below meth c ls E hr hlocks hK hT hS hl
  replace hl : lv_has ls 5 [(0, .ref (ta 73))] := hl
  obtain ⟨J1, hj35, hw⟩ := hw
  have jh2 : ∀ (z3 : TS) (x4 : Int32), J1 z3 x4 → ∀ (H : Heap) (locs : List Loc) (ls : Array Slot), TW G ta z3 H → va_S (TA ta) s.heap H locs → lv_has ls 5 [(0, .ref (ta 73))] → W p l e (rmd (d + 64) 0 0) s m args below meth c H locs 0 0 (MQ below (tQv G ta post) args s 0 0 (TA ta)) (F0 m 25 ls [.int (x4)]) := by
    intro z3 x4 hw H locs ls hT hS hl
    replace hw := hj35 z3 x4 hw
    obtain ⟨J5, hj28, hw⟩ := hw
    have jh6 : ∀ (z7 : TS) (x8 : Int32), J5 z7 x8 → ∀ (H : Heap) (locs : List Loc) (ls : Array Slot), TW G ta z7 H → va_S (TA ta) s.heap H locs → lv_has ls 5 [(0, .ref (ta 73)), (3, .int (x8))] → W p l e (rmd (d + 64) 0 0) s m args below meth c H locs 0 0 (MQ below (tQv G ta post) args s 0 0 (TA ta)) (F0 m 59 ls []) := by
      intro z7 x8 hw H locs ls hT hS hl
      replace hw := hj28 z7 x8 hw
      refine lv_aload_n E.1 E.2.1 dX5_treeLine_59 rfl (lv_at hl 0 rfl) ?_
      refine tw_callVv E hK hT hS (As := []) (rest := []) (met_next l G ta (d + 60) hw) (cwV 0 E.2.2.2.2 (lw_V q2055 q2057 qs59 q128 q2058) rfl rfl rfl hd_next (rm_ok (by omega) (by decide))) rfl rfl hl.1 (Nat.le_of_ble_eq_true rfl) dX5_treeLine_60 (fun z9 H locs hw hT hS => ?_)
      refine lv_aload_n E.1 E.2.1 dX5_treeLine_63 rfl (lv_at hl 0 rfl) ?_
      refine tw_get E hK hT 48 (Nat.le_of_ble_eq_true rfl) q1858 rfl (v := .int (sx z9 48)) rfl dX5_treeLine_64 ?_
      refine lv_if_le (tgt := 71) E.1 E.2.1 dX5_treeLine_67 (by decide) (fun c10 => ?_) (fun c10 => ?_)
      · replace hw := hw.1 (c10)
        refine lv_aload_n E.1 E.2.1 dX5_treeLine_71 rfl (lv_at hl 0 rfl) ?_
        refine lv_iconst (v := nI 0) E.1 E.2.1 dX5_treeLine_72 rfl ?_
        refine tw_puti E hK hT hS 55 (Nat.le_of_ble_eq_true rfl) q1865 rfl rfl rfl rfl dX5_treeLine_73 (fun H locs hT hS => ?_)
        obtain ⟨z11, ez11⟩ : ∃ y, y = ux z9 55 (nI 0) := ⟨_, rfl⟩
        rw [← ez11] at hT
        replace hw := hw z11 ez11
        refine lv_aload_n E.1 E.2.1 dX5_treeLine_76 rfl (lv_at hl 0 rfl) ?_
        refine lv_iconst (v := nI 0) E.1 E.2.1 dX5_treeLine_77 rfl ?_
        refine tw_puti E hK hT hS 59 (Nat.le_of_ble_eq_true rfl) q1869 rfl rfl rfl rfl dX5_treeLine_78 (fun H locs hT hS => ?_)
        obtain ⟨z12, ez12⟩ : ∃ y, y = ux z11 59 (nI 0) := ⟨_, rfl⟩
        rw [← ez12] at hT
        replace hw := hw z12 ez12
        refine lv_aload_n E.1 E.2.1 dX5_treeLine_81 rfl (lv_at hl 0 rfl) ?_
        refine lv_iconst (v := nI 0) E.1 E.2.1 dX5_treeLine_82 rfl ?_
        refine tw_puti E hK hT hS 60 (Nat.le_of_ble_eq_true rfl) q1870 rfl rfl rfl rfl dX5_treeLine_83 (fun H locs hT hS => ?_)
        obtain ⟨z13, ez13⟩ : ∃ y, y = ux z12 60 (nI 0) := ⟨_, rfl⟩
        rw [← ez13] at hT
        replace hw := hw z13 ez13
        refine lv_aload_n E.1 E.2.1 dX5_treeLine_86 rfl (lv_at hl 0 rfl) ?_
        refine lv_iload_n E.1 E.2.1 dX5_treeLine_87 rfl (lv_at hl 1 rfl) ?_
        refine tw_puti E hK hT hS 61 (Nat.le_of_ble_eq_true rfl) q1871 rfl rfl rfl rfl dX5_treeLine_88 (fun H locs hT hS => ?_)
        obtain ⟨z14, ez14⟩ : ∃ y, y = ux z13 61 x8 := ⟨_, rfl⟩
        rw [← ez14] at hT
        replace hw := hw z14 ez14
        refine lv_aload_n E.1 E.2.1 dX5_treeLine_91 rfl (lv_at hl 0 rfl) ?_
        refine tw_callVi E hK hT hS (As := []) (rest := []) (met_node l G ta (d) d_node hw) (cwV 0 E.2.2.2.2 (lw_V q2191 q2193 qs80 q128 q2194) rfl rfl rfl hd_node (rm_ok (by omega) (by decide))) rfl rfl hl.1 (Nat.le_of_ble_eq_true rfl) dX5_treeLine_92 (fun r16 z15 H locs hw hT hS => ?_)
        refine lv_istore (lv' := [(4, .int (r16)), (0, .ref (ta 73)), (3, .int (x8))]) E.1 E.2.1 dX5_treeLine_95 hl (Nat.le_of_ble_eq_true rfl) rfl (fun ls hl => ?_)
        refine lv_aload_n E.1 E.2.1 dX5_treeLine_97 rfl (lv_at hl 1 rfl) ?_
        refine tw_callVv E hK hT hS (As := []) (rest := []) (met_lineEnds l G ta (d + 61) hw) (cwV 0 E.2.2.2.2 (lw_V q2163 q2165 qs73 q128 q2166) rfl rfl rfl hd_lineEnds (rm_ok (by omega) (by decide))) rfl rfl hl.1 (Nat.le_of_ble_eq_true rfl) dX5_treeLine_98 (fun z17 H locs hw hT hS => ?_)
        refine lv_aload_n E.1 E.2.1 dX5_treeLine_101 rfl (lv_at hl 1 rfl) ?_
        refine tw_get E hK hT 48 (Nat.le_of_ble_eq_true rfl) q1858 rfl (v := .int (sx z17 48)) rfl dX5_treeLine_102 ?_
        refine lv_if_ne (tgt := 124) E.1 E.2.1 dX5_treeLine_105 (by decide) (fun c18 => ?_) (fun c18 => ?_)
        · replace hw := hw.1 (c18)
          exact tw_vret E hr hlocks hT hS hw dX5_treeLine_124
        · replace hw := hw.2 (c18)
          refine lv_aload_n E.1 E.2.1 dX5_treeLine_108 rfl (lv_at hl 1 rfl) ?_
          refine tw_get E hK hT 8 (Nat.le_of_ble_eq_true rfl) q1818 rfl (v := .ref (ta 8)) rfl dX5_treeLine_109 ?_
          refine lv_bipush (v := nI 6) E.1 E.2.1 dX5_treeLine_112 rfl ?_
          refine lv_aload_n E.1 E.2.1 dX5_treeLine_114 rfl (lv_at hl 1 rfl) ?_
          refine tw_get E hK hT 31 (Nat.le_of_ble_eq_true rfl) q1841 rfl (v := .int (sx z17 31)) rfl dX5_treeLine_115 ?_
          refine lv_imul E.1 E.2.1 dX5_treeLine_118 ?_
          refine lv_iload_n E.1 E.2.1 dX5_treeLine_119 rfl (lv_at hl 2 rfl) ?_
          refine lv_iadd E.1 E.2.1 dX5_treeLine_120 ?_
          refine lv_iload E.1 E.2.1 dX5_treeLine_121 (lv_at hl 0 rfl) ?_
          obtain ⟨hin, hw⟩ := hw
          refine tw_iast E hK hT hS 8 rfl hin dX5_treeLine_123 (fun H locs hT hS => ?_)
          obtain ⟨z19, ez19⟩ : ∃ y, y = uf z17 8 (((nI 6) * (sx z17 31)) + x8).toNatClampNeg r16 := ⟨_, rfl⟩
          rw [← ez19] at hT
          replace hw := hw z19 ez19
          exact tw_vret E hr hlocks hT hS hw dX5_treeLine_124
      · replace hw := hw.2 (c10)
        exact tw_vret E hr hlocks hT hS hw dX5_treeLine_70
    refine lv_istore_n (lv' := [(3, .int (x4)), (0, .ref (ta 73))]) E.1 E.2.1 dX5_treeLine_25 rfl hl (Nat.le_of_ble_eq_true rfl) rfl (fun ls hl => ?_)
    refine lv_aload_n E.1 E.2.1 dX5_treeLine_26 rfl (lv_at hl 1 rfl) ?_
    refine tw_get E hK hT 48 (Nat.le_of_ble_eq_true rfl) q1858 rfl (v := .int (sx z3 48)) rfl dX5_treeLine_27 ?_
    refine lv_if_ne (tgt := 59) E.1 E.2.1 dX5_treeLine_30 (by decide) (fun c20 => ?_) (fun c20 => ?_)
    · replace hw := hw.1 (c20)
      exact jh6 _ _ hw _ _ _ hT hS (lv_sub hl [1, 0] rfl)
    · replace hw := hw.2 (c20)
      obtain ⟨J21, hj27, hw⟩ := hw
      have jh22 : ∀ (z23 : TS), J21 z23  → ∀ (H : Heap) (locs : List Loc) (ls : Array Slot), TW G ta z23 H → va_S (TA ta) s.heap H locs → lv_has ls 5 [(0, .ref (ta 73)), (3, .int (x4))] → W p l e (rmd (d + 64) 0 0) s m args below meth c H locs 0 0 (MQ below (tQv G ta post) args s 0 0 (TA ta)) (F0 m 54 ls []) := by
        intro z23 hw H locs ls hT hS hl
        replace hw := hj27 z23 hw
        refine lv_aload_n E.1 E.2.1 dX5_treeLine_54 rfl (lv_at hl 0 rfl) ?_
        refine lv_iconst (v := nI 3) E.1 E.2.1 dX5_treeLine_55 rfl ?_
        refine tw_callVv E hK hT hS (As := [.int (nI 3)]) (rest := []) (met_wrong l G ta (d + 62) hw) (cwV 1 E.2.2.2.2 (lw_V q2113 q2115 qs66 q128 q2116) rfl rfl rfl hd_wrong (rm_ok (by omega) (by decide))) rfl rfl hl.1 (Nat.le_of_ble_eq_true rfl) dX5_treeLine_56 (fun z24 H locs hw hT hS => ?_)
        exact jh6 _ _ hw _ _ _ hT hS (lv_sub hl [0, 1] rfl)
      refine lv_iload_n E.1 E.2.1 dX5_treeLine_33 rfl (lv_at hl 0 rfl) ?_
      refine lv_if_lt (tgt := 54) E.1 E.2.1 dX5_treeLine_34 (by decide) (fun c25 => ?_) (fun c25 => ?_)
      · replace hw := hw.1 (c25)
        exact jh22 _ hw _ _ _ hT hS (lv_sub hl [1, 0] rfl)
      · replace hw := hw.2 (c25)
        refine lv_aload_n E.1 E.2.1 dX5_treeLine_37 rfl (lv_at hl 1 rfl) ?_
        refine tw_get E hK hT 8 (Nat.le_of_ble_eq_true rfl) q1818 rfl (v := .ref (ta 8)) rfl dX5_treeLine_38 ?_
        refine lv_bipush (v := nI 6) E.1 E.2.1 dX5_treeLine_41 rfl ?_
        refine lv_aload_n E.1 E.2.1 dX5_treeLine_43 rfl (lv_at hl 1 rfl) ?_
        refine tw_get E hK hT 31 (Nat.le_of_ble_eq_true rfl) q1841 rfl (v := .int (sx z3 31)) rfl dX5_treeLine_44 ?_
        refine lv_imul E.1 E.2.1 dX5_treeLine_47 ?_
        refine lv_iload_n E.1 E.2.1 dX5_treeLine_48 rfl (lv_at hl 0 rfl) ?_
        refine lv_iadd E.1 E.2.1 dX5_treeLine_49 ?_
        obtain ⟨hin, hw⟩ := hw
        refine tw_iald E hK hT 8 rfl hin dX5_treeLine_50 ?_
        refine lv_if_lt (tgt := 59) E.1 E.2.1 dX5_treeLine_51 (by decide) (fun c26 => ?_) (fun c26 => ?_)
        · replace hw := hw.1 (c26)
          exact jh6 _ _ hw _ _ _ hT hS (lv_sub hl [1, 0] rfl)
        · replace hw := hw.2 (c26)
          exact jh22 _ hw _ _ _ hT hS (lv_sub hl [1, 0] rfl)
  refine lv_aload_n E.1 E.2.1 dX5_treeLine_0 rfl (lv_at hl 0 rfl) ?_
  refine tw_callVv E hK hT hS (As := []) (rest := []) (met_next l G ta (d + 60) hw) (cwV 0 E.2.2.2.2 (lw_V q2055 q2057 qs59 q128 q2058) rfl rfl rfl hd_next (rm_ok (by omega) (by decide))) rfl rfl hl.1 (Nat.le_of_ble_eq_true rfl) dX5_treeLine_1 (fun z29 H locs hw hT hS => ?_)
  refine lv_aload_n E.1 E.2.1 dX5_treeLine_4 rfl (lv_at hl 0 rfl) ?_
  refine tw_callVl E hK hT hS (As := []) (rest := []) (met_name l G ta (d + 54) hw) (cwV 0 E.2.2.2.2 (lw_V q2121 q2123 qs68 q128 q2124) rfl rfl rfl hd_name (rm_ok (by omega) (by decide))) rfl rfl hl.1 (Nat.le_of_ble_eq_true rfl) dX5_treeLine_5 (fun w31 z30 H locs hw hT hS => ?_)
  refine lv_lstore_n (lv' := [(1, .long (w31)), (0, .ref (ta 73))]) E.1 E.2.1 dX5_treeLine_8 rfl hl (Nat.le_of_ble_eq_true rfl) rfl (fun ls hl => ?_)
  refine lv_aload_n E.1 E.2.1 dX5_treeLine_9 rfl (lv_at hl 1 rfl) ?_
  refine tw_get E hK hT 48 (Nat.le_of_ble_eq_true rfl) q1858 rfl (v := .int (sx z30 48)) rfl dX5_treeLine_10 ?_
  refine lv_if_le (tgt := 20) E.1 E.2.1 dX5_treeLine_13 (by decide) (fun c32 => ?_) (fun c32 => ?_)
  · replace hw := hw.1 (c32)
    refine lv_aload_n E.1 E.2.1 dX5_treeLine_20 rfl (lv_at hl 1 rfl) ?_
    refine lv_lload_n E.1 E.2.1 dX5_treeLine_21 rfl (lv_at hl 0 rfl) ?_
    refine tw_callVi E hK hT hS (As := [.long (w31)]) (rest := []) (met_chapterOf l G ta (d + 62) hw) (cwV 1 E.2.2.2.2 (lw_V q2148 q2150 qs70 q128 q2151) rfl rfl rfl hd_chapterOf (rm_ok (by omega) (by decide))) rfl rfl hl.1 (Nat.le_of_ble_eq_true rfl) dX5_treeLine_22 (fun r34 z33 H locs hw hT hS => ?_)
    exact jh2 _ _ hw _ _ _ hT hS (lv_sub hl [1] rfl)
  · replace hw := hw.2 (c32)
    refine lv_iconst (v := (-1)) E.1 E.2.1 dX5_treeLine_16 rfl ?_
    refine lv_goto (tgt := 25) E.1 E.2.1 dX5_treeLine_17 (by decide) ?_
    exact jh2 _ _ hw _ _ _ hT hS (lv_sub hl [1] rfl)
/-- edition()I -/
def wp_edition (post : Int32 → TS → Prop) (z0 : TS) : Prop := ∀ z1, z1 = ux z0 2 (nI 0) → ∀ z2, z2 = ux z1 42 (sx z1 1) → ∀ z3, z3 = ux z2 1 (nI 0) → ∀ z4, z4 = ux z3 33 ((-1)) → ((sx z4 42) ≤ (nI 900) → ∃ I6 : Nat → TS → Int32 → Prop, (∃ n12, I6 n12 z4 (nI 0)) ∧ ∀ (n7 : Nat) (z8 : TS) (x11 : Int32), I6 n7 z8 x11 → ((nI 7) ≤ x11 → ∀ z14, z14 = ux z8 48 (nI 0) → ∀ z15, z15 = ux z14 44 (nI 0) → wp_next (fun z16 => ∃ I17 : Nat → TS → Int32 → Prop, (∃ n23, I17 n23 z16 (nI 0)) ∧ ∀ (n18 : Nat) (z19 : TS) (x22 : Int32), I17 n18 z19 x22 → ∃ J24 : TS → Int32 → Prop, (∀ (z26 : TS) (x27 : Int32), J24 z26 x27 → ∃ I28 : Nat → TS → Int32 → Prop, (∃ n34, I28 n34 z26 (nI 0)) ∧ ∀ (n29 : Nat) (z30 : TS) (x33 : Int32), I28 n29 z30 x33 → ∃ J35 : TS → Prop, (∀ (z37 : TS), J35 z37  → ((sx z37 48) ≤ 0 → ∀ x39, x39 = sx z37 29 → ∀ z40, z40 = ux z37 29 (sx z37 31) → ∀ z41, z41 = ux z40 31 x39 → wp_laysLeaves (fun z42 => post x27 z42) z41) ∧ (¬ (sx z37 48) ≤ 0 → ∀ z43, z43 = ux z37 33 x27 → post (((-2)) - (sx z43 48)) z43)) ∧ (wp_chapters (fun r45 z44 => (r45 ≤ x33 → J35 z44 ) ∧ (¬ r45 ≤ x33 → (¬ (sx z44 48) = 0 → J35 z44 ) ∧ ((sx z44 48) = 0 → vp_in (((nI 6) * (sx z44 31)) + x33) 18 ∧ (0 ≤ (sf z44 8 (((nI 6) * (sx z44 31)) + x33).toNatClampNeg) → ∃ n49, n49 < n29 ∧ I28 n49 z44 (x33 + nI 1)) ∧ (¬ 0 ≤ (sf z44 8 (((nI 6) * (sx z44 31)) + x33).toNatClampNeg) → wp_wrong (fun z50 => ∃ n51, n51 < n29 ∧ I28 n51 z50 (x33 + nI 1)) z44 (nI 5))))) z30 (sx z30 31))) ∧ ((¬ (sx z19 48) = 0 → J24 z19 x22) ∧ ((sx z19 48) = 0 → ((sx z19 45) = 0 → J24 z19 x22) ∧ (¬ (sx z19 45) = 0 → ∃ J57 : TS → Prop, (∀ (z59 : TS), J57 z59  → ((sx z59 48) ≤ 0 → wp_next (fun z61 => ∃ n62, n62 < n18 ∧ I17 n62 z61 (x22 + nI 1)) z59) ∧ (¬ (sx z59 48) ≤ 0 → J24 z59 x22)) ∧ (wp_isWord (fun b64 z63 => (b64 = false → wp_isWord (fun b67 z66 => (b67 = false → wp_isWord (fun b70 z69 => (b70 = false → wp_isWord (fun b73 z72 => (b73 = false → wp_wrong (fun z75 => J57 z75 ) z72 (nI 1)) ∧ (b73 = true → wp_treeLine (fun z76 => J57 z76 ) z72)) z69 19) ∧ (b70 = true → wp_partnerLine (fun z77 => J57 z77 ) z69)) z66 14) ∧ (b67 = true → wp_rankLine (fun z78 => J57 z78 ) z66)) z63 15) ∧ (b64 = true → wp_chapterLine (fun z79 => J57 z79 ) z63)) z19 3))))) z15) ∧ (¬ (nI 7) ≤ x11 → vp_in (((nI 7) * (sx z8 31)) + x11) 21 ∧ ∀ z84, z84 = uf z8 3 (((nI 7) * (sx z8 31)) + x11).toNatClampNeg (nI 0) → ∃ n85, n85 < n7 ∧ I6 n85 z84 (x11 + nI 1))) ∧ (¬ (sx z4 42) ≤ (nI 900) → post ((-1)) z4)
theorem hd_edition : yX5_edition.cls = RX5 ∧ yX5_edition.cls ≠ "java/lang/invoke/MethodHandle" ∧ yX5_edition.cls ≠ "java/lang/invoke/VarHandle" ∧ (parseMethodDescriptor yX5_edition.desc).map (fun d => d.parameters.length) = some 0 := by decide +kernel
set_option maxHeartbeats 4000000 in
theorem met_edition (l : Launch) (G : GP) (ta : Nat → Nat) (d : Nat) {post : Int32 → TS → Prop} {z0 : TS} (hw : wp_edition post z0) : Met l yX5_edition (ws_ yX5_edition cX5_edition 3 (some .int)) (rmd (d + 410) 0 0) (tPc G ta z0 [.ref (ta 73)]) (tQi G ta post) 0 0 (TA ta) := by
  unfold wp_edition at hw
  refine tw_met (by decide) rfl (Nat.le_of_ble_eq_true rfl) ?_
  intro p e s m args below meth c ls E hr hlocks hK hT hS hl
  replace hl : lv_has ls 3 [(0, .ref (ta 73))] := hl
  refine lv_aload_n E.1 E.2.1 dX5_edition_0 rfl (lv_at hl 0 rfl) ?_
  refine lv_iconst (v := nI 0) E.1 E.2.1 dX5_edition_1 rfl ?_
  refine tw_puti E hK hT hS 2 (Nat.le_of_ble_eq_true rfl) q1812 rfl rfl rfl rfl dX5_edition_2 (fun H locs hT hS => ?_)
  obtain ⟨z1, ez1⟩ : ∃ y, y = ux z0 2 (nI 0) := ⟨_, rfl⟩
  rw [← ez1] at hT
  replace hw := hw z1 ez1
  refine lv_aload_n E.1 E.2.1 dX5_edition_5 rfl (lv_at hl 0 rfl) ?_
  refine lv_aload_n E.1 E.2.1 dX5_edition_6 rfl (lv_at hl 0 rfl) ?_
  refine tw_get E hK hT 1 (Nat.le_of_ble_eq_true rfl) q1811 rfl (v := .int (sx z1 1)) rfl dX5_edition_7 ?_
  refine tw_puti E hK hT hS 42 (Nat.le_of_ble_eq_true rfl) q1852 rfl rfl rfl rfl dX5_edition_10 (fun H locs hT hS => ?_)
  obtain ⟨z2, ez2⟩ : ∃ y, y = ux z1 42 (sx z1 1) := ⟨_, rfl⟩
  rw [← ez2] at hT
  replace hw := hw z2 ez2
  refine lv_aload_n E.1 E.2.1 dX5_edition_13 rfl (lv_at hl 0 rfl) ?_
  refine lv_iconst (v := nI 0) E.1 E.2.1 dX5_edition_14 rfl ?_
  refine tw_puti E hK hT hS 1 (Nat.le_of_ble_eq_true rfl) q1811 rfl rfl rfl rfl dX5_edition_15 (fun H locs hT hS => ?_)
  obtain ⟨z3, ez3⟩ : ∃ y, y = ux z2 1 (nI 0) := ⟨_, rfl⟩
  rw [← ez3] at hT
  replace hw := hw z3 ez3
  refine lv_aload_n E.1 E.2.1 dX5_edition_18 rfl (lv_at hl 0 rfl) ?_
  refine lv_iconst (v := (-1)) E.1 E.2.1 dX5_edition_19 rfl ?_
  refine tw_puti E hK hT hS 33 (Nat.le_of_ble_eq_true rfl) q1843 rfl rfl rfl rfl dX5_edition_20 (fun H locs hT hS => ?_)
  obtain ⟨z4, ez4⟩ : ∃ y, y = ux z3 33 ((-1)) := ⟨_, rfl⟩
  rw [← ez4] at hT
  replace hw := hw z4 ez4
  refine lv_aload_n E.1 E.2.1 dX5_edition_23 rfl (lv_at hl 0 rfl) ?_
  refine tw_get E hK hT 42 (Nat.le_of_ble_eq_true rfl) q1852 rfl (v := .int (sx z4 42)) rfl dX5_edition_24 ?_
  refine lv_sipush (v := nI 900) E.1 E.2.1 dX5_edition_27 rfl ?_
  refine lv_icmp_le (tgt := 35) E.1 E.2.1 dX5_edition_30 (by decide) (fun c5 => ?_) (fun c5 => ?_)
  · replace hw := hw.1 (c5)
    refine lv_iconst (v := nI 0) E.1 E.2.1 dX5_edition_35 rfl ?_
    refine lv_istore_n (lv' := [(1, .int (nI 0)), (0, .ref (ta 73))]) E.1 E.2.1 dX5_edition_36 rfl hl (Nat.le_of_ble_eq_true rfl) rfl (fun ls hl => ?_)
    obtain ⟨I6, ⟨n12, hi87⟩, hb86⟩ := hw
    have L10 : ∀ (n7 : Nat) (z8 : TS) (x11 : Int32), I6 n7 z8 x11 → ∀ (H : Heap) (locs : List Loc) (ls : Array Slot), TW G ta z8 H → va_S (TA ta) s.heap H locs → lv_has ls 3 [(0, .ref (ta 73)), (1, .int (x11))] → W p l e (rmd (d + 410) 0 0) s m args below meth c H locs 0 0 (MQ below (tQi G ta post) args s 0 0 (TA ta)) (F0 m 37 ls []) := by
      intro n7
      induction n7 using Nat.strongRecOn with
      | _ n7 ih9 =>
        intro z8 x11 hw H locs ls hT hS hl
        replace hw := hb86 n7 z8 x11 hw
        refine lv_iload_n E.1 E.2.1 dX5_edition_37 rfl (lv_at hl 1 rfl) ?_
        refine lv_bipush (v := nI 7) E.1 E.2.1 dX5_edition_38 rfl ?_
        refine lv_icmp_ge (tgt := 64) E.1 E.2.1 dX5_edition_40 (by decide) (fun c13 => ?_) (fun c13 => ?_)
        · replace hw := hw.1 (c13)
          refine lv_aload_n E.1 E.2.1 dX5_edition_64 rfl (lv_at hl 0 rfl) ?_
          refine lv_iconst (v := nI 0) E.1 E.2.1 dX5_edition_65 rfl ?_
          refine tw_puti E hK hT hS 48 (Nat.le_of_ble_eq_true rfl) q1858 rfl rfl rfl rfl dX5_edition_66 (fun H locs hT hS => ?_)
          obtain ⟨z14, ez14⟩ : ∃ y, y = ux z8 48 (nI 0) := ⟨_, rfl⟩
          rw [← ez14] at hT
          replace hw := hw z14 ez14
          refine lv_aload_n E.1 E.2.1 dX5_edition_69 rfl (lv_at hl 0 rfl) ?_
          refine lv_iconst (v := nI 0) E.1 E.2.1 dX5_edition_70 rfl ?_
          refine tw_puti E hK hT hS 44 (Nat.le_of_ble_eq_true rfl) q1854 rfl rfl rfl rfl dX5_edition_71 (fun H locs hT hS => ?_)
          obtain ⟨z15, ez15⟩ : ∃ y, y = ux z14 44 (nI 0) := ⟨_, rfl⟩
          rw [← ez15] at hT
          replace hw := hw z15 ez15
          refine lv_iconst (v := nI 0) E.1 E.2.1 dX5_edition_74 rfl ?_
          refine lv_istore_n (lv' := [(1, .int (nI 0)), (0, .ref (ta 73))]) E.1 E.2.1 dX5_edition_75 rfl hl (Nat.le_of_ble_eq_true rfl) rfl (fun ls hl => ?_)
          refine lv_aload_n E.1 E.2.1 dX5_edition_76 rfl (lv_at hl 1 rfl) ?_
          refine tw_callVv E hK hT hS (As := []) (rest := []) (met_next l G ta (d + 406) hw) (cwV 0 E.2.2.2.2 (lw_V q2055 q2057 qs59 q128 q2058) rfl rfl rfl hd_next (rm_ok (by omega) (by decide))) rfl rfl hl.1 (Nat.le_of_ble_eq_true rfl) dX5_edition_77 (fun z16 H locs hw hT hS => ?_)
          obtain ⟨I17, ⟨n23, hi83⟩, hb82⟩ := hw
          have L21 : ∀ (n18 : Nat) (z19 : TS) (x22 : Int32), I17 n18 z19 x22 → ∀ (H : Heap) (locs : List Loc) (ls : Array Slot), TW G ta z19 H → va_S (TA ta) s.heap H locs → lv_has ls 3 [(0, .ref (ta 73)), (1, .int (x22))] → W p l e (rmd (d + 410) 0 0) s m args below meth c H locs 0 0 (MQ below (tQi G ta post) args s 0 0 (TA ta)) (F0 m 80 ls []) := by
            intro n18
            induction n18 using Nat.strongRecOn with
            | _ n18 ih20 =>
              intro z19 x22 hw H locs ls hT hS hl
              replace hw := hb82 n18 z19 x22 hw
              obtain ⟨J24, hj81, hw⟩ := hw
              have jh25 : ∀ (z26 : TS) (x27 : Int32), J24 z26 x27 → ∀ (H : Heap) (locs : List Loc) (ls : Array Slot), TW G ta z26 H → va_S (TA ta) s.heap H locs → lv_has ls 3 [(0, .ref (ta 73)), (1, .int (x27))] → W p l e (rmd (d + 410) 0 0) s m args below meth c H locs 0 0 (MQ below (tQi G ta post) args s 0 0 (TA ta)) (F0 m 183 ls []) := by
                intro z26 x27 hw H locs ls hT hS hl
                replace hw := hj81 z26 x27 hw
                refine lv_iconst (v := nI 0) E.1 E.2.1 dX5_edition_183 rfl ?_
                refine lv_istore_n (lv' := [(2, .int (nI 0)), (0, .ref (ta 73)), (1, .int (x27))]) E.1 E.2.1 dX5_edition_184 rfl hl (Nat.le_of_ble_eq_true rfl) rfl (fun ls hl => ?_)
                obtain ⟨I28, ⟨n34, hi54⟩, hb53⟩ := hw
                have L32 : ∀ (n29 : Nat) (z30 : TS) (x33 : Int32), I28 n29 z30 x33 → ∀ (H : Heap) (locs : List Loc) (ls : Array Slot), TW G ta z30 H → va_S (TA ta) s.heap H locs → lv_has ls 3 [(0, .ref (ta 73)), (1, .int (x27)), (2, .int (x33))] → W p l e (rmd (d + 410) 0 0) s m args below meth c H locs 0 0 (MQ below (tQi G ta post) args s 0 0 (TA ta)) (F0 m 185 ls []) := by
                  intro n29
                  induction n29 using Nat.strongRecOn with
                  | _ n29 ih31 =>
                    intro z30 x33 hw H locs ls hT hS hl
                    replace hw := hb53 n29 z30 x33 hw
                    obtain ⟨J35, hj52, hw⟩ := hw
                    have jh36 : ∀ (z37 : TS), J35 z37  → ∀ (H : Heap) (locs : List Loc) (ls : Array Slot), TW G ta z37 H → va_S (TA ta) s.heap H locs → lv_has ls 3 [(0, .ref (ta 73)), (1, .int (x27))] → W p l e (rmd (d + 410) 0 0) s m args below meth c H locs 0 0 (MQ below (tQi G ta post) args s 0 0 (TA ta)) (F0 m 232 ls []) := by
                      intro z37 hw H locs ls hT hS hl
                      replace hw := hj52 z37 hw
                      refine lv_aload_n E.1 E.2.1 dX5_edition_232 rfl (lv_at hl 0 rfl) ?_
                      refine tw_get E hK hT 48 (Nat.le_of_ble_eq_true rfl) q1858 rfl (v := .int (sx z37 48)) rfl dX5_edition_233 ?_
                      refine lv_if_le (tgt := 252) E.1 E.2.1 dX5_edition_236 (by decide) (fun c38 => ?_) (fun c38 => ?_)
                      · replace hw := hw.1 (c38)
                        refine lv_aload_n E.1 E.2.1 dX5_edition_252 rfl (lv_at hl 0 rfl) ?_
                        refine tw_get E hK hT 29 (Nat.le_of_ble_eq_true rfl) q1839 rfl (v := .int (sx z37 29)) rfl dX5_edition_253 ?_
                        refine lv_topi (fun x39 ex39 => ?_)
                        replace hw := hw x39 ex39
                        refine lv_istore_n (lv' := [(2, .int (x39)), (0, .ref (ta 73)), (1, .int (x27))]) E.1 E.2.1 dX5_edition_256 rfl hl (Nat.le_of_ble_eq_true rfl) rfl (fun ls hl => ?_)
                        refine lv_aload_n E.1 E.2.1 dX5_edition_257 rfl (lv_at hl 1 rfl) ?_
                        refine lv_aload_n E.1 E.2.1 dX5_edition_258 rfl (lv_at hl 1 rfl) ?_
                        refine tw_get E hK hT 31 (Nat.le_of_ble_eq_true rfl) q1841 rfl (v := .int (sx z37 31)) rfl dX5_edition_259 ?_
                        refine tw_puti E hK hT hS 29 (Nat.le_of_ble_eq_true rfl) q1839 rfl rfl rfl rfl dX5_edition_262 (fun H locs hT hS => ?_)
                        obtain ⟨z40, ez40⟩ : ∃ y, y = ux z37 29 (sx z37 31) := ⟨_, rfl⟩
                        rw [← ez40] at hT
                        replace hw := hw z40 ez40
                        refine lv_aload_n E.1 E.2.1 dX5_edition_265 rfl (lv_at hl 1 rfl) ?_
                        refine lv_iload_n E.1 E.2.1 dX5_edition_266 rfl (lv_at hl 0 rfl) ?_
                        refine tw_puti E hK hT hS 31 (Nat.le_of_ble_eq_true rfl) q1841 rfl rfl rfl rfl dX5_edition_267 (fun H locs hT hS => ?_)
                        obtain ⟨z41, ez41⟩ : ∃ y, y = ux z40 31 x39 := ⟨_, rfl⟩
                        rw [← ez41] at hT
                        replace hw := hw z41 ez41
                        refine lv_aload_n E.1 E.2.1 dX5_edition_270 rfl (lv_at hl 1 rfl) ?_
                        refine tw_callVv E hK hT hS (As := []) (rest := []) (met_laysLeaves l G ta (d) hw) (cwV 0 E.2.2.2.2 (lw_V q2251 q2253 qs95 q128 q2254) rfl rfl rfl hd_laysLeaves (rm_ok (by omega) (by decide))) rfl rfl hl.1 (Nat.le_of_ble_eq_true rfl) dX5_edition_271 (fun z42 H locs hw hT hS => ?_)
                        refine lv_iload_n E.1 E.2.1 dX5_edition_274 rfl (lv_at hl 2 rfl) ?_
                        exact tw_ireti E hr hlocks hT hS hw dX5_edition_275
                      · replace hw := hw.2 (c38)
                        refine lv_aload_n E.1 E.2.1 dX5_edition_239 rfl (lv_at hl 0 rfl) ?_
                        refine lv_iload_n E.1 E.2.1 dX5_edition_240 rfl (lv_at hl 1 rfl) ?_
                        refine tw_puti E hK hT hS 33 (Nat.le_of_ble_eq_true rfl) q1843 rfl rfl rfl rfl dX5_edition_241 (fun H locs hT hS => ?_)
                        obtain ⟨z43, ez43⟩ : ∃ y, y = ux z37 33 x27 := ⟨_, rfl⟩
                        rw [← ez43] at hT
                        replace hw := hw z43 ez43
                        refine lv_bipush (v := (-2)) E.1 E.2.1 dX5_edition_244 rfl ?_
                        refine lv_aload_n E.1 E.2.1 dX5_edition_246 rfl (lv_at hl 0 rfl) ?_
                        refine tw_get E hK hT 48 (Nat.le_of_ble_eq_true rfl) q1858 rfl (v := .int (sx z43 48)) rfl dX5_edition_247 ?_
                        refine lv_isub E.1 E.2.1 dX5_edition_250 ?_
                        exact tw_ireti E hr hlocks hT hS hw dX5_edition_251
                    refine lv_iload_n E.1 E.2.1 dX5_edition_185 rfl (lv_at hl 2 rfl) ?_
                    refine lv_aload_n E.1 E.2.1 dX5_edition_186 rfl (lv_at hl 0 rfl) ?_
                    refine lv_aload_n E.1 E.2.1 dX5_edition_187 rfl (lv_at hl 0 rfl) ?_
                    refine tw_get E hK hT 31 (Nat.le_of_ble_eq_true rfl) q1841 rfl (v := .int (sx z30 31)) rfl dX5_edition_188 ?_
                    refine tw_callVi E hK hT hS (As := [.int (sx z30 31)]) (rest := [.int (x33)]) (met_chapters l G ta (d + 409) hw) (cwV 1 E.2.2.2.2 (lw_V q2109 q2111 qs65 q128 q2112) rfl rfl rfl hd_chapters (rm_ok (by omega) (by decide))) rfl rfl hl.1 (Nat.le_of_ble_eq_true rfl) dX5_edition_191 (fun r45 z44 H locs hw hT hS => ?_)
                    refine lv_icmp_ge (tgt := 232) E.1 E.2.1 dX5_edition_194 (by decide) (fun c46 => ?_) (fun c46 => ?_)
                    · replace hw := hw.1 (c46)
                      exact jh36 _ hw _ _ _ hT hS (lv_sub hl [0, 1] rfl)
                    · replace hw := hw.2 (c46)
                      refine lv_aload_n E.1 E.2.1 dX5_edition_197 rfl (lv_at hl 0 rfl) ?_
                      refine tw_get E hK hT 48 (Nat.le_of_ble_eq_true rfl) q1858 rfl (v := .int (sx z44 48)) rfl dX5_edition_198 ?_
                      refine lv_if_ne (tgt := 232) E.1 E.2.1 dX5_edition_201 (by decide) (fun c47 => ?_) (fun c47 => ?_)
                      · replace hw := hw.1 (c47)
                        exact jh36 _ hw _ _ _ hT hS (lv_sub hl [0, 1] rfl)
                      · replace hw := hw.2 (c47)
                        refine lv_aload_n E.1 E.2.1 dX5_edition_204 rfl (lv_at hl 0 rfl) ?_
                        refine tw_get E hK hT 8 (Nat.le_of_ble_eq_true rfl) q1818 rfl (v := .ref (ta 8)) rfl dX5_edition_205 ?_
                        refine lv_bipush (v := nI 6) E.1 E.2.1 dX5_edition_208 rfl ?_
                        refine lv_aload_n E.1 E.2.1 dX5_edition_210 rfl (lv_at hl 0 rfl) ?_
                        refine tw_get E hK hT 31 (Nat.le_of_ble_eq_true rfl) q1841 rfl (v := .int (sx z44 31)) rfl dX5_edition_211 ?_
                        refine lv_imul E.1 E.2.1 dX5_edition_214 ?_
                        refine lv_iload_n E.1 E.2.1 dX5_edition_215 rfl (lv_at hl 2 rfl) ?_
                        refine lv_iadd E.1 E.2.1 dX5_edition_216 ?_
                        obtain ⟨hin, hw⟩ := hw
                        refine tw_iald E hK hT 8 rfl hin dX5_edition_217 ?_
                        refine lv_if_ge (tgt := 226) E.1 E.2.1 dX5_edition_218 (by decide) (fun c48 => ?_) (fun c48 => ?_)
                        · replace hw := hw.1 (c48)
                          refine lv_iinc (k := 2) (v := x33 + nI 1) (lv' := [(2, .int (x33 + nI 1)), (0, .ref (ta 73)), (1, .int (x27))]) E.1 E.2.1 dX5_edition_226 hl rfl rfl (Nat.le_of_ble_eq_true rfl) rfl (fun ls hl => ?_)
                          refine lv_goto (tgt := 185) E.1 E.2.1 dX5_edition_229 (by decide) ?_
                          obtain ⟨n49, hnn49, hin49⟩ := hw
                          exact ih31 n49 hnn49 _ _ hin49 _ _ _ hT hS (lv_sub hl [1, 2, 0] rfl)
                        · replace hw := hw.2 (c48)
                          refine lv_aload_n E.1 E.2.1 dX5_edition_221 rfl (lv_at hl 0 rfl) ?_
                          refine lv_iconst (v := nI 5) E.1 E.2.1 dX5_edition_222 rfl ?_
                          refine tw_callVv E hK hT hS (As := [.int (nI 5)]) (rest := []) (met_wrong l G ta (d + 408) hw) (cwV 1 E.2.2.2.2 (lw_V q2113 q2115 qs66 q128 q2116) rfl rfl rfl hd_wrong (rm_ok (by omega) (by decide))) rfl rfl hl.1 (Nat.le_of_ble_eq_true rfl) dX5_edition_223 (fun z50 H locs hw hT hS => ?_)
                          refine lv_iinc (k := 2) (v := x33 + nI 1) (lv' := [(2, .int (x33 + nI 1)), (0, .ref (ta 73)), (1, .int (x27))]) E.1 E.2.1 dX5_edition_226 hl rfl rfl (Nat.le_of_ble_eq_true rfl) rfl (fun ls hl => ?_)
                          refine lv_goto (tgt := 185) E.1 E.2.1 dX5_edition_229 (by decide) ?_
                          obtain ⟨n51, hnn51, hin51⟩ := hw
                          exact ih31 n51 hnn51 _ _ hin51 _ _ _ hT hS (lv_sub hl [1, 2, 0] rfl)
                exact L32 n34 _ _ hi54 _ _ _ hT hS (lv_sub hl [1, 2, 0] rfl)
              refine lv_aload_n E.1 E.2.1 dX5_edition_80 rfl (lv_at hl 0 rfl) ?_
              refine tw_get E hK hT 48 (Nat.le_of_ble_eq_true rfl) q1858 rfl (v := .int (sx z19 48)) rfl dX5_edition_81 ?_
              refine lv_if_ne (tgt := 183) E.1 E.2.1 dX5_edition_84 (by decide) (fun c55 => ?_) (fun c55 => ?_)
              · replace hw := hw.1 (c55)
                exact jh25 _ _ hw _ _ _ hT hS (lv_sub hl [0, 1] rfl)
              · replace hw := hw.2 (c55)
                refine lv_aload_n E.1 E.2.1 dX5_edition_87 rfl (lv_at hl 0 rfl) ?_
                refine tw_get E hK hT 45 (Nat.le_of_ble_eq_true rfl) q1855 rfl (v := .int (sx z19 45)) rfl dX5_edition_88 ?_
                refine lv_if_eq (tgt := 183) E.1 E.2.1 dX5_edition_91 (by decide) (fun c56 => ?_) (fun c56 => ?_)
                · replace hw := hw.1 (c56)
                  exact jh25 _ _ hw _ _ _ hT hS (lv_sub hl [0, 1] rfl)
                · replace hw := hw.2 (c56)
                  obtain ⟨J57, hj80, hw⟩ := hw
                  have jh58 : ∀ (z59 : TS), J57 z59  → ∀ (H : Heap) (locs : List Loc) (ls : Array Slot), TW G ta z59 H → va_S (TA ta) s.heap H locs → lv_has ls 3 [(0, .ref (ta 73)), (1, .int (x22))] → W p l e (rmd (d + 410) 0 0) s m args below meth c H locs 0 0 (MQ below (tQi G ta post) args s 0 0 (TA ta)) (F0 m 163 ls []) := by
                    intro z59 hw H locs ls hT hS hl
                    replace hw := hj80 z59 hw
                    refine lv_aload_n E.1 E.2.1 dX5_edition_163 rfl (lv_at hl 0 rfl) ?_
                    refine tw_get E hK hT 48 (Nat.le_of_ble_eq_true rfl) q1858 rfl (v := .int (sx z59 48)) rfl dX5_edition_164 ?_
                    refine lv_if_le (tgt := 173) E.1 E.2.1 dX5_edition_167 (by decide) (fun c60 => ?_) (fun c60 => ?_)
                    · replace hw := hw.1 (c60)
                      refine lv_aload_n E.1 E.2.1 dX5_edition_173 rfl (lv_at hl 0 rfl) ?_
                      refine tw_callVv E hK hT hS (As := []) (rest := []) (met_next l G ta (d + 406) hw) (cwV 0 E.2.2.2.2 (lw_V q2055 q2057 qs59 q128 q2058) rfl rfl rfl hd_next (rm_ok (by omega) (by decide))) rfl rfl hl.1 (Nat.le_of_ble_eq_true rfl) dX5_edition_174 (fun z61 H locs hw hT hS => ?_)
                      refine lv_iinc (k := 1) (v := x22 + nI 1) (lv' := [(1, .int (x22 + nI 1)), (0, .ref (ta 73))]) E.1 E.2.1 dX5_edition_177 hl rfl rfl (Nat.le_of_ble_eq_true rfl) rfl (fun ls hl => ?_)
                      refine lv_goto (tgt := 80) E.1 E.2.1 dX5_edition_180 (by decide) ?_
                      obtain ⟨n62, hnn62, hin62⟩ := hw
                      exact ih20 n62 hnn62 _ _ hin62 _ _ _ hT hS (lv_sub hl [1, 0] rfl)
                    · replace hw := hw.2 (c60)
                      refine lv_goto (tgt := 183) E.1 E.2.1 dX5_edition_170 (by decide) ?_
                      exact jh25 _ _ hw _ _ _ hT hS (lv_sub hl [0, 1] rfl)
                  refine lv_aload_n E.1 E.2.1 dX5_edition_94 rfl (lv_at hl 0 rfl) ?_
                  refine tw_ldcS E hK 33 3 rfl dX5_edition_95 ?_
                  refine tw_callVz E hK hT hS (As := [.ref (gK G 3)]) (rest := []) (met_isWord l G ta (d + 402) hw) (cwV 1 E.2.2.2.2 (lw_V q2079 q2081 qs63 q128 q2082) rfl rfl rfl hd_isWord (rm_ok (by omega) (by decide))) rfl rfl hl.1 (Nat.le_of_ble_eq_true rfl) dX5_edition_97 (fun b64 z63 H locs hw hT hS => ?_)
                  refine lv_if_eq (tgt := 110) E.1 E.2.1 dX5_edition_100 (by decide) (fun c65 => ?_) (fun c65 => ?_)
                  · replace hw := hw.1 (bi_z c65)
                    refine lv_aload_n E.1 E.2.1 dX5_edition_110 rfl (lv_at hl 0 rfl) ?_
                    refine tw_ldcS E hK 34 15 rfl dX5_edition_111 ?_
                    refine tw_callVz E hK hT hS (As := [.ref (gK G 15)]) (rest := []) (met_isWord l G ta (d + 402) hw) (cwV 1 E.2.2.2.2 (lw_V q2079 q2081 qs63 q128 q2082) rfl rfl rfl hd_isWord (rm_ok (by omega) (by decide))) rfl rfl hl.1 (Nat.le_of_ble_eq_true rfl) dX5_edition_113 (fun b67 z66 H locs hw hT hS => ?_)
                    refine lv_if_eq (tgt := 126) E.1 E.2.1 dX5_edition_116 (by decide) (fun c68 => ?_) (fun c68 => ?_)
                    · replace hw := hw.1 (bi_z c68)
                      refine lv_aload_n E.1 E.2.1 dX5_edition_126 rfl (lv_at hl 0 rfl) ?_
                      refine tw_ldcS E hK 35 14 rfl dX5_edition_127 ?_
                      refine tw_callVz E hK hT hS (As := [.ref (gK G 14)]) (rest := []) (met_isWord l G ta (d + 402) hw) (cwV 1 E.2.2.2.2 (lw_V q2079 q2081 qs63 q128 q2082) rfl rfl rfl hd_isWord (rm_ok (by omega) (by decide))) rfl rfl hl.1 (Nat.le_of_ble_eq_true rfl) dX5_edition_129 (fun b70 z69 H locs hw hT hS => ?_)
                      refine lv_if_eq (tgt := 142) E.1 E.2.1 dX5_edition_132 (by decide) (fun c71 => ?_) (fun c71 => ?_)
                      · replace hw := hw.1 (bi_z c71)
                        refine lv_aload_n E.1 E.2.1 dX5_edition_142 rfl (lv_at hl 0 rfl) ?_
                        refine tw_ldcS E hK 36 19 rfl dX5_edition_143 ?_
                        refine tw_callVz E hK hT hS (As := [.ref (gK G 19)]) (rest := []) (met_isWord l G ta (d + 402) hw) (cwV 1 E.2.2.2.2 (lw_V q2079 q2081 qs63 q128 q2082) rfl rfl rfl hd_isWord (rm_ok (by omega) (by decide))) rfl rfl hl.1 (Nat.le_of_ble_eq_true rfl) dX5_edition_145 (fun b73 z72 H locs hw hT hS => ?_)
                        refine lv_if_eq (tgt := 158) E.1 E.2.1 dX5_edition_148 (by decide) (fun c74 => ?_) (fun c74 => ?_)
                        · replace hw := hw.1 (bi_z c74)
                          refine lv_aload_n E.1 E.2.1 dX5_edition_158 rfl (lv_at hl 0 rfl) ?_
                          refine lv_iconst (v := nI 1) E.1 E.2.1 dX5_edition_159 rfl ?_
                          refine tw_callVv E hK hT hS (As := [.int (nI 1)]) (rest := []) (met_wrong l G ta (d + 408) hw) (cwV 1 E.2.2.2.2 (lw_V q2113 q2115 qs66 q128 q2116) rfl rfl rfl hd_wrong (rm_ok (by omega) (by decide))) rfl rfl hl.1 (Nat.le_of_ble_eq_true rfl) dX5_edition_160 (fun z75 H locs hw hT hS => ?_)
                          exact jh58 _ hw _ _ _ hT hS (lv_sub hl [0, 1] rfl)
                        · replace hw := hw.2 (bi_n c74)
                          refine lv_aload_n E.1 E.2.1 dX5_edition_151 rfl (lv_at hl 0 rfl) ?_
                          refine tw_callVv E hK hT hS (As := []) (rest := []) (met_treeLine l G ta (d + 345) hw) (cwV 0 E.2.2.2.2 (lw_V q2187 q2189 qs79 q128 q2190) rfl rfl rfl hd_treeLine (rm_ok (by omega) (by decide))) rfl rfl hl.1 (Nat.le_of_ble_eq_true rfl) dX5_edition_152 (fun z76 H locs hw hT hS => ?_)
                          refine lv_goto (tgt := 163) E.1 E.2.1 dX5_edition_155 (by decide) ?_
                          exact jh58 _ hw _ _ _ hT hS (lv_sub hl [0, 1] rfl)
                      · replace hw := hw.2 (bi_n c71)
                        refine lv_aload_n E.1 E.2.1 dX5_edition_135 rfl (lv_at hl 0 rfl) ?_
                        refine tw_callVv E hK hT hS (As := []) (rest := []) (met_partnerLine l G ta (d + 400) hw) (cwV 0 E.2.2.2.2 (lw_V q2179 q2181 qs77 q128 q2182) rfl rfl rfl hd_partnerLine (rm_ok (by omega) (by decide))) rfl rfl hl.1 (Nat.le_of_ble_eq_true rfl) dX5_edition_136 (fun z77 H locs hw hT hS => ?_)
                        refine lv_goto (tgt := 163) E.1 E.2.1 dX5_edition_139 (by decide) ?_
                        exact jh58 _ hw _ _ _ hT hS (lv_sub hl [0, 1] rfl)
                    · replace hw := hw.2 (bi_n c68)
                      refine lv_aload_n E.1 E.2.1 dX5_edition_119 rfl (lv_at hl 0 rfl) ?_
                      refine tw_callVv E hK hT hS (As := []) (rest := []) (met_rankLine l G ta (d + 400) hw) (cwV 0 E.2.2.2.2 (lw_V q2167 q2169 qs74 q128 q2170) rfl rfl rfl hd_rankLine (rm_ok (by omega) (by decide))) rfl rfl hl.1 (Nat.le_of_ble_eq_true rfl) dX5_edition_120 (fun z78 H locs hw hT hS => ?_)
                      refine lv_goto (tgt := 163) E.1 E.2.1 dX5_edition_123 (by decide) ?_
                      exact jh58 _ hw _ _ _ hT hS (lv_sub hl [0, 1] rfl)
                  · replace hw := hw.2 (bi_n c65)
                    refine lv_aload_n E.1 E.2.1 dX5_edition_103 rfl (lv_at hl 0 rfl) ?_
                    refine tw_callVv E hK hT hS (As := []) (rest := []) (met_chapterLine l G ta (d + 399) hw) (cwV 0 E.2.2.2.2 (lw_V q2105 q2107 qs64 q128 q2108) rfl rfl rfl hd_chapterLine (rm_ok (by omega) (by decide))) rfl rfl hl.1 (Nat.le_of_ble_eq_true rfl) dX5_edition_104 (fun z79 H locs hw hT hS => ?_)
                    refine lv_goto (tgt := 163) E.1 E.2.1 dX5_edition_107 (by decide) ?_
                    exact jh58 _ hw _ _ _ hT hS (lv_sub hl [0, 1] rfl)
          exact L21 n23 _ _ hi83 _ _ _ hT hS (lv_sub hl [1, 0] rfl)
        · replace hw := hw.2 (c13)
          refine lv_aload_n E.1 E.2.1 dX5_edition_43 rfl (lv_at hl 0 rfl) ?_
          refine tw_get E hK hT 3 (Nat.le_of_ble_eq_true rfl) q1813 rfl (v := .ref (ta 3)) rfl dX5_edition_44 ?_
          refine lv_bipush (v := nI 7) E.1 E.2.1 dX5_edition_47 rfl ?_
          refine lv_aload_n E.1 E.2.1 dX5_edition_49 rfl (lv_at hl 0 rfl) ?_
          refine tw_get E hK hT 31 (Nat.le_of_ble_eq_true rfl) q1841 rfl (v := .int (sx z8 31)) rfl dX5_edition_50 ?_
          refine lv_imul E.1 E.2.1 dX5_edition_53 ?_
          refine lv_iload_n E.1 E.2.1 dX5_edition_54 rfl (lv_at hl 1 rfl) ?_
          refine lv_iadd E.1 E.2.1 dX5_edition_55 ?_
          refine lv_iconst (v := nI 0) E.1 E.2.1 dX5_edition_56 rfl ?_
          obtain ⟨hin, hw⟩ := hw
          refine tw_iast E hK hT hS 3 rfl hin dX5_edition_57 (fun H locs hT hS => ?_)
          obtain ⟨z84, ez84⟩ : ∃ y, y = uf z8 3 (((nI 7) * (sx z8 31)) + x11).toNatClampNeg (nI 0) := ⟨_, rfl⟩
          rw [← ez84] at hT
          replace hw := hw z84 ez84
          refine lv_iinc (k := 1) (v := x11 + nI 1) (lv' := [(1, .int (x11 + nI 1)), (0, .ref (ta 73))]) E.1 E.2.1 dX5_edition_58 hl rfl rfl (Nat.le_of_ble_eq_true rfl) rfl (fun ls hl => ?_)
          refine lv_goto (tgt := 37) E.1 E.2.1 dX5_edition_61 (by decide) ?_
          obtain ⟨n85, hnn85, hin85⟩ := hw
          exact ih9 n85 hnn85 _ _ hin85 _ _ _ hT hS (lv_sub hl [1, 0] rfl)
    exact L10 n12 _ _ hi87 _ _ _ hT hS (lv_sub hl [1, 0] rfl)
  · replace hw := hw.2 (c5)
    refine lv_iconst (v := (-1)) E.1 E.2.1 dX5_edition_33 rfl ?_
    exact tw_ireti E hr hlocks hT hS hw dX5_edition_34
/-- faultLine()I -/
def wp_faultLine (post : Int32 → TS → Prop) (z0 : TS) : Prop := ∀ z1, z1 = ux z0 2 (nI 0) → post (sx z1 33) z1
theorem hd_faultLine : yX5_faultLine.cls = RX5 ∧ yX5_faultLine.cls ≠ "java/lang/invoke/MethodHandle" ∧ yX5_faultLine.cls ≠ "java/lang/invoke/VarHandle" ∧ (parseMethodDescriptor yX5_faultLine.desc).map (fun d => d.parameters.length) = some 0 := by decide +kernel
set_option maxHeartbeats 4000000 in
theorem met_faultLine (l : Launch) (G : GP) (ta : Nat → Nat) (d : Nat) {post : Int32 → TS → Prop} {z0 : TS} (hw : wp_faultLine post z0) : Met l yX5_faultLine (ws_ yX5_faultLine cX5_faultLine 1 (some .int)) (rmd (d + 0) 0 0) (tPc G ta z0 [.ref (ta 73)]) (tQi G ta post) 0 0 (TA ta) := by
  unfold wp_faultLine at hw
  refine tw_met (by decide) rfl (Nat.le_of_ble_eq_true rfl) ?_
  intro p e s m args below meth c ls E hr hlocks hK hT hS hl
  replace hl : lv_has ls 1 [(0, .ref (ta 73))] := hl
  refine lv_aload_n E.1 E.2.1 dX5_faultLine_0 rfl (lv_at hl 0 rfl) ?_
  refine lv_iconst (v := nI 0) E.1 E.2.1 dX5_faultLine_1 rfl ?_
  refine tw_puti E hK hT hS 2 (Nat.le_of_ble_eq_true rfl) q1812 rfl rfl rfl rfl dX5_faultLine_2 (fun H locs hT hS => ?_)
  obtain ⟨z1, ez1⟩ : ∃ y, y = ux z0 2 (nI 0) := ⟨_, rfl⟩
  rw [← ez1] at hT
  replace hw := hw z1 ez1
  refine lv_aload_n E.1 E.2.1 dX5_faultLine_5 rfl (lv_at hl 0 rfl) ?_
  refine tw_get E hK hT 33 (Nat.le_of_ble_eq_true rfl) q1843 rfl (v := .int (sx z1 33)) rfl dX5_faultLine_6 ?_
  exact tw_ireti E hr hlocks hT hS hw dX5_faultLine_9
/-- stay(III)I -/
def wp_stay (post : Int32 → TS → Prop) (z0 : TS) (i1 : Int32) (i2 : Int32) (i3 : Int32) : Prop := ∀ z1, z1 = ux z0 2 (nI 0) → wp_within (fun b3 z2 => (b3 = false → post ((-1)) z2) ∧ (b3 = true → wp_within (fun b6 z5 => (b6 = false → post ((-1)) z5) ∧ (b6 = true → wp_within (fun b9 z8 => (b9 = false → post ((-1)) z8) ∧ (b9 = true → (¬ (sx z8 34) = (nI 24) → vp_in (sx z8 34) 24 ∧ ∀ z12, z12 = uf z8 35 (sx z8 34).toNatClampNeg i1 → vp_in (sx z12 34) 24 ∧ ∀ z13, z13 = uf z12 36 (sx z12 34).toNatClampNeg i2 → vp_in (sx z13 34) 24 ∧ ∀ z14, z14 = uf z13 37 (sx z13 34).toNatClampNeg i3 → vp_in (sx z14 34) 24 ∧ ∀ z15, z15 = uf z14 38 (sx z14 34).toNatClampNeg (nI 0) → vp_in (sx z15 34) 24 ∧ ∀ z16, z16 = uf z15 40 (sx z15 34).toNatClampNeg (nI 0) → ∀ z17, z17 = ux z16 34 ((sx z16 34) + (nI 1)) → post ((sx z17 34) - (nI 1)) z17) ∧ ((sx z8 34) = (nI 24) → post ((-1)) z8))) z5 i3 (nI 1) (nI 400))) z2 i2 (nI 0) (nI 120))) z1 i1 (nI 0) (nI 999)
theorem hd_stay : yX5_stay.cls = RX5 ∧ yX5_stay.cls ≠ "java/lang/invoke/MethodHandle" ∧ yX5_stay.cls ≠ "java/lang/invoke/VarHandle" ∧ (parseMethodDescriptor yX5_stay.desc).map (fun d => d.parameters.length) = some 3 := by decide +kernel
set_option maxHeartbeats 4000000 in
theorem met_stay (l : Launch) (G : GP) (ta : Nat → Nat) (d : Nat) {post : Int32 → TS → Prop} {z0 : TS} {i1 : Int32} {i2 : Int32} {i3 : Int32} (hw : wp_stay post z0 i1 i2 i3) : Met l yX5_stay (ws_ yX5_stay cX5_stay 4 (some .int)) (rmd (d + 1) 0 0) (tPc G ta z0 [.ref (ta 73), .int (i1), .int (i2), .int (i3)]) (tQi G ta post) 0 0 (TA ta) := by
  unfold wp_stay at hw
  refine tw_met (by decide) rfl (Nat.le_of_ble_eq_true rfl) ?_
  intro p e s m args below meth c ls E hr hlocks hK hT hS hl
  replace hl : lv_has ls 4 [(0, .ref (ta 73)), (1, .int (i1)), (2, .int (i2)), (3, .int (i3))] := hl
  refine lv_aload_n E.1 E.2.1 dX5_stay_0 rfl (lv_at hl 0 rfl) ?_
  refine lv_iconst (v := nI 0) E.1 E.2.1 dX5_stay_1 rfl ?_
  refine tw_puti E hK hT hS 2 (Nat.le_of_ble_eq_true rfl) q1812 rfl rfl rfl rfl dX5_stay_2 (fun H locs hT hS => ?_)
  obtain ⟨z1, ez1⟩ : ∃ y, y = ux z0 2 (nI 0) := ⟨_, rfl⟩
  rw [← ez1] at hT
  replace hw := hw z1 ez1
  refine lv_iload_n E.1 E.2.1 dX5_stay_5 rfl (lv_at hl 1 rfl) ?_
  refine lv_iconst (v := nI 0) E.1 E.2.1 dX5_stay_6 rfl ?_
  refine lv_sipush (v := nI 999) E.1 E.2.1 dX5_stay_7 rfl ?_
  refine tw_callSz E hK hT hS (As := [.int (i1), .int (nI 0), .int (nI 999)]) (rest := []) (met_within l G ta (d) hw) (va_cwS 3 E.2.2.2.2 (lw_S q2048 q2049 q128 q2050) rfl rfl rfl hs_within (rm_ok (by omega) (by decide))) rfl rfl hl.1 (Nat.le_of_ble_eq_true rfl) dX5_stay_10 (fun b3 z2 H locs hw hT hS => ?_)
  refine lv_if_eq (tgt := 46) E.1 E.2.1 dX5_stay_13 (by decide) (fun c4 => ?_) (fun c4 => ?_)
  · replace hw := hw.1 (bi_z c4)
    refine lv_iconst (v := (-1)) E.1 E.2.1 dX5_stay_46 rfl ?_
    exact tw_ireti E hr hlocks hT hS hw dX5_stay_47
  · replace hw := hw.2 (bi_n c4)
    refine lv_iload_n E.1 E.2.1 dX5_stay_16 rfl (lv_at hl 2 rfl) ?_
    refine lv_iconst (v := nI 0) E.1 E.2.1 dX5_stay_17 rfl ?_
    refine lv_bipush (v := nI 120) E.1 E.2.1 dX5_stay_18 rfl ?_
    refine tw_callSz E hK hT hS (As := [.int (i2), .int (nI 0), .int (nI 120)]) (rest := []) (met_within l G ta (d) hw) (va_cwS 3 E.2.2.2.2 (lw_S q2048 q2049 q128 q2050) rfl rfl rfl hs_within (rm_ok (by omega) (by decide))) rfl rfl hl.1 (Nat.le_of_ble_eq_true rfl) dX5_stay_20 (fun b6 z5 H locs hw hT hS => ?_)
    refine lv_if_eq (tgt := 46) E.1 E.2.1 dX5_stay_23 (by decide) (fun c7 => ?_) (fun c7 => ?_)
    · replace hw := hw.1 (bi_z c7)
      refine lv_iconst (v := (-1)) E.1 E.2.1 dX5_stay_46 rfl ?_
      exact tw_ireti E hr hlocks hT hS hw dX5_stay_47
    · replace hw := hw.2 (bi_n c7)
      refine lv_iload_n E.1 E.2.1 dX5_stay_26 rfl (lv_at hl 3 rfl) ?_
      refine lv_iconst (v := nI 1) E.1 E.2.1 dX5_stay_27 rfl ?_
      refine lv_sipush (v := nI 400) E.1 E.2.1 dX5_stay_28 rfl ?_
      refine tw_callSz E hK hT hS (As := [.int (i3), .int (nI 1), .int (nI 400)]) (rest := []) (met_within l G ta (d) hw) (va_cwS 3 E.2.2.2.2 (lw_S q2048 q2049 q128 q2050) rfl rfl rfl hs_within (rm_ok (by omega) (by decide))) rfl rfl hl.1 (Nat.le_of_ble_eq_true rfl) dX5_stay_31 (fun b9 z8 H locs hw hT hS => ?_)
      refine lv_if_eq (tgt := 46) E.1 E.2.1 dX5_stay_34 (by decide) (fun c10 => ?_) (fun c10 => ?_)
      · replace hw := hw.1 (bi_z c10)
        refine lv_iconst (v := (-1)) E.1 E.2.1 dX5_stay_46 rfl ?_
        exact tw_ireti E hr hlocks hT hS hw dX5_stay_47
      · replace hw := hw.2 (bi_n c10)
        refine lv_aload_n E.1 E.2.1 dX5_stay_37 rfl (lv_at hl 0 rfl) ?_
        refine tw_get E hK hT 34 (Nat.le_of_ble_eq_true rfl) q1844 rfl (v := .int (sx z8 34)) rfl dX5_stay_38 ?_
        refine lv_bipush (v := nI 24) E.1 E.2.1 dX5_stay_41 rfl ?_
        refine lv_icmp_ne (tgt := 48) E.1 E.2.1 dX5_stay_43 (by decide) (fun c11 => ?_) (fun c11 => ?_)
        · replace hw := hw.1 (c11)
          refine lv_aload_n E.1 E.2.1 dX5_stay_48 rfl (lv_at hl 0 rfl) ?_
          refine tw_get E hK hT 35 (Nat.le_of_ble_eq_true rfl) q1845 rfl (v := .ref (ta 35)) rfl dX5_stay_49 ?_
          refine lv_aload_n E.1 E.2.1 dX5_stay_52 rfl (lv_at hl 0 rfl) ?_
          refine tw_get E hK hT 34 (Nat.le_of_ble_eq_true rfl) q1844 rfl (v := .int (sx z8 34)) rfl dX5_stay_53 ?_
          refine lv_iload_n E.1 E.2.1 dX5_stay_56 rfl (lv_at hl 1 rfl) ?_
          obtain ⟨hin, hw⟩ := hw
          refine tw_iast E hK hT hS 35 rfl hin dX5_stay_57 (fun H locs hT hS => ?_)
          obtain ⟨z12, ez12⟩ : ∃ y, y = uf z8 35 (sx z8 34).toNatClampNeg i1 := ⟨_, rfl⟩
          rw [← ez12] at hT
          replace hw := hw z12 ez12
          refine lv_aload_n E.1 E.2.1 dX5_stay_58 rfl (lv_at hl 0 rfl) ?_
          refine tw_get E hK hT 36 (Nat.le_of_ble_eq_true rfl) q1846 rfl (v := .ref (ta 36)) rfl dX5_stay_59 ?_
          refine lv_aload_n E.1 E.2.1 dX5_stay_62 rfl (lv_at hl 0 rfl) ?_
          refine tw_get E hK hT 34 (Nat.le_of_ble_eq_true rfl) q1844 rfl (v := .int (sx z12 34)) rfl dX5_stay_63 ?_
          refine lv_iload_n E.1 E.2.1 dX5_stay_66 rfl (lv_at hl 2 rfl) ?_
          obtain ⟨hin, hw⟩ := hw
          refine tw_iast E hK hT hS 36 rfl hin dX5_stay_67 (fun H locs hT hS => ?_)
          obtain ⟨z13, ez13⟩ : ∃ y, y = uf z12 36 (sx z12 34).toNatClampNeg i2 := ⟨_, rfl⟩
          rw [← ez13] at hT
          replace hw := hw z13 ez13
          refine lv_aload_n E.1 E.2.1 dX5_stay_68 rfl (lv_at hl 0 rfl) ?_
          refine tw_get E hK hT 37 (Nat.le_of_ble_eq_true rfl) q1847 rfl (v := .ref (ta 37)) rfl dX5_stay_69 ?_
          refine lv_aload_n E.1 E.2.1 dX5_stay_72 rfl (lv_at hl 0 rfl) ?_
          refine tw_get E hK hT 34 (Nat.le_of_ble_eq_true rfl) q1844 rfl (v := .int (sx z13 34)) rfl dX5_stay_73 ?_
          refine lv_iload_n E.1 E.2.1 dX5_stay_76 rfl (lv_at hl 3 rfl) ?_
          obtain ⟨hin, hw⟩ := hw
          refine tw_iast E hK hT hS 37 rfl hin dX5_stay_77 (fun H locs hT hS => ?_)
          obtain ⟨z14, ez14⟩ : ∃ y, y = uf z13 37 (sx z13 34).toNatClampNeg i3 := ⟨_, rfl⟩
          rw [← ez14] at hT
          replace hw := hw z14 ez14
          refine lv_aload_n E.1 E.2.1 dX5_stay_78 rfl (lv_at hl 0 rfl) ?_
          refine tw_get E hK hT 38 (Nat.le_of_ble_eq_true rfl) q1848 rfl (v := .ref (ta 38)) rfl dX5_stay_79 ?_
          refine lv_aload_n E.1 E.2.1 dX5_stay_82 rfl (lv_at hl 0 rfl) ?_
          refine tw_get E hK hT 34 (Nat.le_of_ble_eq_true rfl) q1844 rfl (v := .int (sx z14 34)) rfl dX5_stay_83 ?_
          refine lv_iconst (v := nI 0) E.1 E.2.1 dX5_stay_86 rfl ?_
          obtain ⟨hin, hw⟩ := hw
          refine tw_iast E hK hT hS 38 rfl hin dX5_stay_87 (fun H locs hT hS => ?_)
          obtain ⟨z15, ez15⟩ : ∃ y, y = uf z14 38 (sx z14 34).toNatClampNeg (nI 0) := ⟨_, rfl⟩
          rw [← ez15] at hT
          replace hw := hw z15 ez15
          refine lv_aload_n E.1 E.2.1 dX5_stay_88 rfl (lv_at hl 0 rfl) ?_
          refine tw_get E hK hT 40 (Nat.le_of_ble_eq_true rfl) q1850 rfl (v := .ref (ta 40)) rfl dX5_stay_89 ?_
          refine lv_aload_n E.1 E.2.1 dX5_stay_92 rfl (lv_at hl 0 rfl) ?_
          refine tw_get E hK hT 34 (Nat.le_of_ble_eq_true rfl) q1844 rfl (v := .int (sx z15 34)) rfl dX5_stay_93 ?_
          refine lv_iconst (v := nI 0) E.1 E.2.1 dX5_stay_96 rfl ?_
          obtain ⟨hin, hw⟩ := hw
          refine tw_iast E hK hT hS 40 rfl hin dX5_stay_97 (fun H locs hT hS => ?_)
          obtain ⟨z16, ez16⟩ : ∃ y, y = uf z15 40 (sx z15 34).toNatClampNeg (nI 0) := ⟨_, rfl⟩
          rw [← ez16] at hT
          replace hw := hw z16 ez16
          refine lv_aload_n E.1 E.2.1 dX5_stay_98 rfl (lv_at hl 0 rfl) ?_
          refine lv_dup E.1 E.2.1 dX5_stay_99 rfl ?_
          refine tw_get E hK hT 34 (Nat.le_of_ble_eq_true rfl) q1844 rfl (v := .int (sx z16 34)) rfl dX5_stay_100 ?_
          refine lv_iconst (v := nI 1) E.1 E.2.1 dX5_stay_103 rfl ?_
          refine lv_iadd E.1 E.2.1 dX5_stay_104 ?_
          refine tw_puti E hK hT hS 34 (Nat.le_of_ble_eq_true rfl) q1844 rfl rfl rfl rfl dX5_stay_105 (fun H locs hT hS => ?_)
          obtain ⟨z17, ez17⟩ : ∃ y, y = ux z16 34 ((sx z16 34) + (nI 1)) := ⟨_, rfl⟩
          rw [← ez17] at hT
          replace hw := hw z17 ez17
          refine lv_aload_n E.1 E.2.1 dX5_stay_108 rfl (lv_at hl 0 rfl) ?_
          refine tw_get E hK hT 34 (Nat.le_of_ble_eq_true rfl) q1844 rfl (v := .int (sx z17 34)) rfl dX5_stay_109 ?_
          refine lv_iconst (v := nI 1) E.1 E.2.1 dX5_stay_112 rfl ?_
          refine lv_isub E.1 E.2.1 dX5_stay_113 ?_
          exact tw_ireti E hr hlocks hT hS hw dX5_stay_114
        · replace hw := hw.2 (c11)
          refine lv_iconst (v := (-1)) E.1 E.2.1 dX5_stay_46 rfl ?_
          exact tw_ireti E hr hlocks hT hS hw dX5_stay_47
/-- comes([IIII)V -/
def wp_comes (post : TS → Prop) (z0 : TS) (k0 : Nat) (i1 : Int32) (i2 : Int32) (i3 : Int32) : Prop := ∃ I1 : Nat → TS → Int32 → Prop, (∃ n7, I1 n7 z0 i2) ∧ ∀ (n2 : Nat) (z3 : TS) (x6 : Int32), I1 n2 z3 x6 → (x6 ≤ 0 → tai k0 = true ∧ vp_in (i1 + x6) (tlen k0) ∧ ∀ z9, z9 = uf z3 k0 (i1 + x6).toNatClampNeg i3 → post z9) ∧ (¬ x6 ≤ 0 → tai k0 = true ∧ vp_in ((i1 + x6) - (nI 1)) (tlen k0) ∧ ((sf z3 k0 ((i1 + x6) - (nI 1)).toNatClampNeg) ≤ i3 → tai k0 = true ∧ vp_in (i1 + x6) (tlen k0) ∧ ∀ z11, z11 = uf z3 k0 (i1 + x6).toNatClampNeg i3 → post z11) ∧ (¬ (sf z3 k0 ((i1 + x6) - (nI 1)).toNatClampNeg) ≤ i3 → tai k0 = true ∧ vp_in ((i1 + x6) - (nI 1)) (tlen k0) ∧ tai k0 = true ∧ vp_in (i1 + x6) (tlen k0) ∧ ∀ z12, z12 = uf z3 k0 (i1 + x6).toNatClampNeg (sf z3 k0 ((i1 + x6) - (nI 1)).toNatClampNeg) → ∃ n13, n13 < n2 ∧ I1 n13 z12 (x6 + (-1))))
theorem hs_comes : yX5_comes.cls ≠ "java/lang/invoke/MethodHandle" ∧ yX5_comes.cls ≠ "java/lang/invoke/VarHandle" ∧ (parseMethodDescriptor yX5_comes.desc).map (fun d => d.parameters.length) = some 4 := by decide +kernel
set_option maxHeartbeats 4000000 in
theorem met_comes (l : Launch) (G : GP) (ta : Nat → Nat) (d : Nat) {post : TS → Prop} {z0 : TS} {k0 : Nat} {i1 : Int32} {i2 : Int32} {i3 : Int32} (hw : wp_comes post z0 k0 i1 i2 i3) : Met l yX5_comes (ws_ yX5_comes cX5_comes 5 none) (rmd (d + 0) 0 0) (tPc G ta z0 [.ref (ta k0), .int (i1), .int (i2), .int (i3)]) (tQv G ta post) 0 0 (TA ta) := by
  unfold wp_comes at hw
  refine tw_met (by decide) rfl (Nat.le_of_ble_eq_true rfl) ?_
  intro p e s m args below meth c ls E hr hlocks hK hT hS hl
  replace hl : lv_has ls 5 [(0, .ref (ta k0)), (1, .int (i1)), (2, .int (i2)), (3, .int (i3))] := hl
  refine lv_iload_n E.1 E.2.1 dX5_comes_0 rfl (lv_at hl 2 rfl) ?_
  refine lv_istore (lv' := [(4, .int (i2)), (0, .ref (ta k0)), (1, .int (i1)), (2, .int (i2)), (3, .int (i3))]) E.1 E.2.1 dX5_comes_1 hl (Nat.le_of_ble_eq_true rfl) rfl (fun ls hl => ?_)
  obtain ⟨I1, ⟨n7, hi15⟩, hb14⟩ := hw
  have L5 : ∀ (n2 : Nat) (z3 : TS) (x6 : Int32), I1 n2 z3 x6 → ∀ (H : Heap) (locs : List Loc) (ls : Array Slot), TW G ta z3 H → va_S (TA ta) s.heap H locs → lv_has ls 5 [(0, .ref (ta k0)), (1, .int (i1)), (3, .int (i3)), (4, .int (x6))] → W p l e (rmd (d + 0) 0 0) s m args below meth c H locs 0 0 (MQ below (tQv G ta post) args s 0 0 (TA ta)) (F0 m 3 ls []) := by
    intro n2
    induction n2 using Nat.strongRecOn with
    | _ n2 ih4 =>
      intro z3 x6 hw H locs ls hT hS hl
      replace hw := hb14 n2 z3 x6 hw
      refine lv_iload E.1 E.2.1 dX5_comes_3 (lv_at hl 3 rfl) ?_
      refine lv_if_le (tgt := 40) E.1 E.2.1 dX5_comes_5 (by decide) (fun c8 => ?_) (fun c8 => ?_)
      · replace hw := hw.1 (c8)
        refine lv_aload_n E.1 E.2.1 dX5_comes_40 rfl (lv_at hl 0 rfl) ?_
        refine lv_iload_n E.1 E.2.1 dX5_comes_41 rfl (lv_at hl 1 rfl) ?_
        refine lv_iload E.1 E.2.1 dX5_comes_42 (lv_at hl 3 rfl) ?_
        refine lv_iadd E.1 E.2.1 dX5_comes_44 ?_
        refine lv_iload_n E.1 E.2.1 dX5_comes_45 rfl (lv_at hl 2 rfl) ?_
        obtain ⟨hta, hin, hw⟩ := hw
        refine tw_iast E hK hT hS k0 hta hin dX5_comes_46 (fun H locs hT hS => ?_)
        obtain ⟨z9, ez9⟩ : ∃ y, y = uf z3 k0 (i1 + x6).toNatClampNeg i3 := ⟨_, rfl⟩
        rw [← ez9] at hT
        replace hw := hw z9 ez9
        exact tw_vret E hr hlocks hT hS hw dX5_comes_47
      · replace hw := hw.2 (c8)
        refine lv_aload_n E.1 E.2.1 dX5_comes_8 rfl (lv_at hl 0 rfl) ?_
        refine lv_iload_n E.1 E.2.1 dX5_comes_9 rfl (lv_at hl 1 rfl) ?_
        refine lv_iload E.1 E.2.1 dX5_comes_10 (lv_at hl 3 rfl) ?_
        refine lv_iadd E.1 E.2.1 dX5_comes_12 ?_
        refine lv_iconst (v := nI 1) E.1 E.2.1 dX5_comes_13 rfl ?_
        refine lv_isub E.1 E.2.1 dX5_comes_14 ?_
        obtain ⟨hta, hin, hw⟩ := hw
        refine tw_iald E hK hT k0 hta hin dX5_comes_15 ?_
        refine lv_iload_n E.1 E.2.1 dX5_comes_16 rfl (lv_at hl 2 rfl) ?_
        refine lv_icmp_le (tgt := 40) E.1 E.2.1 dX5_comes_17 (by decide) (fun c10 => ?_) (fun c10 => ?_)
        · replace hw := hw.1 (c10)
          refine lv_aload_n E.1 E.2.1 dX5_comes_40 rfl (lv_at hl 0 rfl) ?_
          refine lv_iload_n E.1 E.2.1 dX5_comes_41 rfl (lv_at hl 1 rfl) ?_
          refine lv_iload E.1 E.2.1 dX5_comes_42 (lv_at hl 3 rfl) ?_
          refine lv_iadd E.1 E.2.1 dX5_comes_44 ?_
          refine lv_iload_n E.1 E.2.1 dX5_comes_45 rfl (lv_at hl 2 rfl) ?_
          obtain ⟨hta, hin, hw⟩ := hw
          refine tw_iast E hK hT hS k0 hta hin dX5_comes_46 (fun H locs hT hS => ?_)
          obtain ⟨z11, ez11⟩ : ∃ y, y = uf z3 k0 (i1 + x6).toNatClampNeg i3 := ⟨_, rfl⟩
          rw [← ez11] at hT
          replace hw := hw z11 ez11
          exact tw_vret E hr hlocks hT hS hw dX5_comes_47
        · replace hw := hw.2 (c10)
          refine lv_aload_n E.1 E.2.1 dX5_comes_20 rfl (lv_at hl 0 rfl) ?_
          refine lv_iload_n E.1 E.2.1 dX5_comes_21 rfl (lv_at hl 1 rfl) ?_
          refine lv_iload E.1 E.2.1 dX5_comes_22 (lv_at hl 3 rfl) ?_
          refine lv_iadd E.1 E.2.1 dX5_comes_24 ?_
          refine lv_aload_n E.1 E.2.1 dX5_comes_25 rfl (lv_at hl 0 rfl) ?_
          refine lv_iload_n E.1 E.2.1 dX5_comes_26 rfl (lv_at hl 1 rfl) ?_
          refine lv_iload E.1 E.2.1 dX5_comes_27 (lv_at hl 3 rfl) ?_
          refine lv_iadd E.1 E.2.1 dX5_comes_29 ?_
          refine lv_iconst (v := nI 1) E.1 E.2.1 dX5_comes_30 rfl ?_
          refine lv_isub E.1 E.2.1 dX5_comes_31 ?_
          obtain ⟨hta, hin, hw⟩ := hw
          refine tw_iald E hK hT k0 hta hin dX5_comes_32 ?_
          obtain ⟨hta, hin, hw⟩ := hw
          refine tw_iast E hK hT hS k0 hta hin dX5_comes_33 (fun H locs hT hS => ?_)
          obtain ⟨z12, ez12⟩ : ∃ y, y = uf z3 k0 (i1 + x6).toNatClampNeg (sf z3 k0 ((i1 + x6) - (nI 1)).toNatClampNeg) := ⟨_, rfl⟩
          rw [← ez12] at hT
          replace hw := hw z12 ez12
          refine lv_iinc (k := 3) (v := x6 + (-1)) (lv' := [(4, .int (x6 + (-1))), (0, .ref (ta k0)), (1, .int (i1)), (3, .int (i3))]) E.1 E.2.1 dX5_comes_34 hl rfl rfl (Nat.le_of_ble_eq_true rfl) rfl (fun ls hl => ?_)
          refine lv_goto (tgt := 3) E.1 E.2.1 dX5_comes_37 (by decide) ?_
          obtain ⟨n13, hnn13, hin13⟩ := hw
          exact ih4 n13 hnn13 _ _ hin13 _ _ _ hT hS (lv_sub hl [1, 2, 3, 0] rfl)
  exact L5 n7 _ _ hi15 _ _ _ hT hS (lv_sub hl [1, 2, 4, 0] rfl)
/-- adds(II)V -/
def wp_adds (post : TS → Prop) (z0 : TS) (i1 : Int32) (i2 : Int32) : Prop := (i2 < (nI 1000) → vp_in (i1) 24 ∧ wp_comes (fun z2 => vp_in (i1) 24 ∧ vp_in (i1) 24 ∧ ∀ z3, z3 = uf z2 38 i1.toNatClampNeg ((sf z2 38 i1.toNatClampNeg) + (nI 1)) → post z3) z0 39 ((nI 8) * i1) (sf z0 38 i1.toNatClampNeg) i2) ∧ (¬ i2 < (nI 1000) → vp_in (i1) 24 ∧ wp_comes (fun z4 => vp_in (i1) 24 ∧ vp_in (i1) 24 ∧ ∀ z5, z5 = uf z4 40 i1.toNatClampNeg ((sf z4 40 i1.toNatClampNeg) + (nI 1)) → post z5) z0 41 ((nI 6) * i1) (sf z0 40 i1.toNatClampNeg) i2)
theorem hd_adds : yX5_adds.cls = RX5 ∧ yX5_adds.cls ≠ "java/lang/invoke/MethodHandle" ∧ yX5_adds.cls ≠ "java/lang/invoke/VarHandle" ∧ (parseMethodDescriptor yX5_adds.desc).map (fun d => d.parameters.length) = some 2 := by decide +kernel
set_option maxHeartbeats 4000000 in
theorem met_adds (l : Launch) (G : GP) (ta : Nat → Nat) (d : Nat) {post : TS → Prop} {z0 : TS} {i1 : Int32} {i2 : Int32} (hw : wp_adds post z0 i1 i2) : Met l yX5_adds (ws_ yX5_adds cX5_adds 3 none) (rmd (d + 1) 0 0) (tPc G ta z0 [.ref (ta 73), .int (i1), .int (i2)]) (tQv G ta post) 0 0 (TA ta) := by
  unfold wp_adds at hw
  refine tw_met (by decide) rfl (Nat.le_of_ble_eq_true rfl) ?_
  intro p e s m args below meth c ls E hr hlocks hK hT hS hl
  replace hl : lv_has ls 3 [(0, .ref (ta 73)), (1, .int (i1)), (2, .int (i2))] := hl
  refine lv_iload_n E.1 E.2.1 dX5_adds_0 rfl (lv_at hl 2 rfl) ?_
  refine lv_sipush (v := nI 1000) E.1 E.2.1 dX5_adds_1 rfl ?_
  refine lv_icmp_lt (tgt := 38) E.1 E.2.1 dX5_adds_4 (by decide) (fun c1 => ?_) (fun c1 => ?_)
  · replace hw := hw.1 (c1)
    refine lv_aload_n E.1 E.2.1 dX5_adds_38 rfl (lv_at hl 0 rfl) ?_
    refine tw_get E hK hT 39 (Nat.le_of_ble_eq_true rfl) q1849 rfl (v := .ref (ta 39)) rfl dX5_adds_39 ?_
    refine lv_bipush (v := nI 8) E.1 E.2.1 dX5_adds_42 rfl ?_
    refine lv_iload_n E.1 E.2.1 dX5_adds_44 rfl (lv_at hl 1 rfl) ?_
    refine lv_imul E.1 E.2.1 dX5_adds_45 ?_
    refine lv_aload_n E.1 E.2.1 dX5_adds_46 rfl (lv_at hl 0 rfl) ?_
    refine tw_get E hK hT 38 (Nat.le_of_ble_eq_true rfl) q1848 rfl (v := .ref (ta 38)) rfl dX5_adds_47 ?_
    refine lv_iload_n E.1 E.2.1 dX5_adds_50 rfl (lv_at hl 1 rfl) ?_
    obtain ⟨hin, hw⟩ := hw
    refine tw_iald E hK hT 38 rfl hin dX5_adds_51 ?_
    refine lv_iload_n E.1 E.2.1 dX5_adds_52 rfl (lv_at hl 2 rfl) ?_
    refine tw_callSv E hK hT hS (As := [.ref (ta 39), .int ((nI 8) * i1), .int (sf z0 38 i1.toNatClampNeg), .int (i2)]) (rest := []) (met_comes l G ta (d) hw) (va_cwS 4 E.2.2.2.2 (lw_S q2305 q2306 q128 q2307) rfl rfl rfl hs_comes (rm_ok (by omega) (by decide))) rfl rfl hl.1 (Nat.le_of_ble_eq_true rfl) dX5_adds_53 (fun z2 H locs hw hT hS => ?_)
    refine lv_aload_n E.1 E.2.1 dX5_adds_56 rfl (lv_at hl 0 rfl) ?_
    refine tw_get E hK hT 38 (Nat.le_of_ble_eq_true rfl) q1848 rfl (v := .ref (ta 38)) rfl dX5_adds_57 ?_
    refine lv_iload_n E.1 E.2.1 dX5_adds_60 rfl (lv_at hl 1 rfl) ?_
    refine lv_dup2_11 E.1 E.2.1 dX5_adds_61 rfl rfl ?_
    obtain ⟨hin, hw⟩ := hw
    refine tw_iald E hK hT 38 rfl hin dX5_adds_62 ?_
    refine lv_iconst (v := nI 1) E.1 E.2.1 dX5_adds_63 rfl ?_
    refine lv_iadd E.1 E.2.1 dX5_adds_64 ?_
    obtain ⟨hin, hw⟩ := hw
    refine tw_iast E hK hT hS 38 rfl hin dX5_adds_65 (fun H locs hT hS => ?_)
    obtain ⟨z3, ez3⟩ : ∃ y, y = uf z2 38 i1.toNatClampNeg ((sf z2 38 i1.toNatClampNeg) + (nI 1)) := ⟨_, rfl⟩
    rw [← ez3] at hT
    replace hw := hw z3 ez3
    exact tw_vret E hr hlocks hT hS hw dX5_adds_66
  · replace hw := hw.2 (c1)
    refine lv_aload_n E.1 E.2.1 dX5_adds_7 rfl (lv_at hl 0 rfl) ?_
    refine tw_get E hK hT 41 (Nat.le_of_ble_eq_true rfl) q1851 rfl (v := .ref (ta 41)) rfl dX5_adds_8 ?_
    refine lv_bipush (v := nI 6) E.1 E.2.1 dX5_adds_11 rfl ?_
    refine lv_iload_n E.1 E.2.1 dX5_adds_13 rfl (lv_at hl 1 rfl) ?_
    refine lv_imul E.1 E.2.1 dX5_adds_14 ?_
    refine lv_aload_n E.1 E.2.1 dX5_adds_15 rfl (lv_at hl 0 rfl) ?_
    refine tw_get E hK hT 40 (Nat.le_of_ble_eq_true rfl) q1850 rfl (v := .ref (ta 40)) rfl dX5_adds_16 ?_
    refine lv_iload_n E.1 E.2.1 dX5_adds_19 rfl (lv_at hl 1 rfl) ?_
    obtain ⟨hin, hw⟩ := hw
    refine tw_iald E hK hT 40 rfl hin dX5_adds_20 ?_
    refine lv_iload_n E.1 E.2.1 dX5_adds_21 rfl (lv_at hl 2 rfl) ?_
    refine tw_callSv E hK hT hS (As := [.ref (ta 41), .int ((nI 6) * i1), .int (sf z0 40 i1.toNatClampNeg), .int (i2)]) (rest := []) (met_comes l G ta (d) hw) (va_cwS 4 E.2.2.2.2 (lw_S q2305 q2306 q128 q2307) rfl rfl rfl hs_comes (rm_ok (by omega) (by decide))) rfl rfl hl.1 (Nat.le_of_ble_eq_true rfl) dX5_adds_22 (fun z4 H locs hw hT hS => ?_)
    refine lv_aload_n E.1 E.2.1 dX5_adds_25 rfl (lv_at hl 0 rfl) ?_
    refine tw_get E hK hT 40 (Nat.le_of_ble_eq_true rfl) q1850 rfl (v := .ref (ta 40)) rfl dX5_adds_26 ?_
    refine lv_iload_n E.1 E.2.1 dX5_adds_29 rfl (lv_at hl 1 rfl) ?_
    refine lv_dup2_11 E.1 E.2.1 dX5_adds_30 rfl rfl ?_
    obtain ⟨hin, hw⟩ := hw
    refine tw_iald E hK hT 40 rfl hin dX5_adds_31 ?_
    refine lv_iconst (v := nI 1) E.1 E.2.1 dX5_adds_32 rfl ?_
    refine lv_iadd E.1 E.2.1 dX5_adds_33 ?_
    obtain ⟨hin, hw⟩ := hw
    refine tw_iast E hK hT hS 40 rfl hin dX5_adds_34 (fun H locs hT hS => ?_)
    obtain ⟨z5, ez5⟩ : ∃ y, y = uf z4 40 i1.toNatClampNeg ((sf z4 40 i1.toNatClampNeg) + (nI 1)) := ⟨_, rfl⟩
    rw [← ez5] at hT
    replace hw := hw z5 ez5
    refine lv_goto (tgt := 66) E.1 E.2.1 dX5_adds_35 (by decide) ?_
    exact tw_vret E hr hlocks hT hS hw dX5_adds_66
/-- find([IIII)I -/
def wp_find (post : Int32 → TS → Prop) (z0 : TS) (k0 : Nat) (i1 : Int32) (i2 : Int32) (i3 : Int32) : Prop := ∃ I1 : Nat → TS → Int32 → Prop, (∃ n7, I1 n7 z0 (nI 0)) ∧ ∀ (n2 : Nat) (z3 : TS) (x6 : Int32), I1 n2 z3 x6 → (i2 ≤ x6 → post ((-1)) z3) ∧ (¬ i2 ≤ x6 → tai k0 = true ∧ vp_in (i1 + x6) (tlen k0) ∧ (¬ (sf z3 k0 (i1 + x6).toNatClampNeg) = i3 → ∃ n10, n10 < n2 ∧ I1 n10 z3 (x6 + nI 1)) ∧ ((sf z3 k0 (i1 + x6).toNatClampNeg) = i3 → post x6 z3))
theorem hs_find : yX5_find.cls ≠ "java/lang/invoke/MethodHandle" ∧ yX5_find.cls ≠ "java/lang/invoke/VarHandle" ∧ (parseMethodDescriptor yX5_find.desc).map (fun d => d.parameters.length) = some 4 := by decide +kernel
set_option maxHeartbeats 4000000 in
theorem met_find (l : Launch) (G : GP) (ta : Nat → Nat) (d : Nat) {post : Int32 → TS → Prop} {z0 : TS} {k0 : Nat} {i1 : Int32} {i2 : Int32} {i3 : Int32} (hw : wp_find post z0 k0 i1 i2 i3) : Met l yX5_find (ws_ yX5_find cX5_find 5 (some .int)) (rmd (d + 0) 0 0) (tPc G ta z0 [.ref (ta k0), .int (i1), .int (i2), .int (i3)]) (tQi G ta post) 0 0 (TA ta) := by
  unfold wp_find at hw
  refine tw_met (by decide) rfl (Nat.le_of_ble_eq_true rfl) ?_
  intro p e s m args below meth c ls E hr hlocks hK hT hS hl
  replace hl : lv_has ls 5 [(0, .ref (ta k0)), (1, .int (i1)), (2, .int (i2)), (3, .int (i3))] := hl
  refine lv_iconst (v := nI 0) E.1 E.2.1 dX5_find_0 rfl ?_
  refine lv_istore (lv' := [(4, .int (nI 0)), (0, .ref (ta k0)), (1, .int (i1)), (2, .int (i2)), (3, .int (i3))]) E.1 E.2.1 dX5_find_1 hl (Nat.le_of_ble_eq_true rfl) rfl (fun ls hl => ?_)
  obtain ⟨I1, ⟨n7, hi12⟩, hb11⟩ := hw
  have L5 : ∀ (n2 : Nat) (z3 : TS) (x6 : Int32), I1 n2 z3 x6 → ∀ (H : Heap) (locs : List Loc) (ls : Array Slot), TW G ta z3 H → va_S (TA ta) s.heap H locs → lv_has ls 5 [(0, .ref (ta k0)), (1, .int (i1)), (2, .int (i2)), (3, .int (i3)), (4, .int (x6))] → W p l e (rmd (d + 0) 0 0) s m args below meth c H locs 0 0 (MQ below (tQi G ta post) args s 0 0 (TA ta)) (F0 m 3 ls []) := by
    intro n2
    induction n2 using Nat.strongRecOn with
    | _ n2 ih4 =>
      intro z3 x6 hw H locs ls hT hS hl
      replace hw := hb11 n2 z3 x6 hw
      refine lv_iload E.1 E.2.1 dX5_find_3 (lv_at hl 4 rfl) ?_
      refine lv_iload_n E.1 E.2.1 dX5_find_5 rfl (lv_at hl 2 rfl) ?_
      refine lv_icmp_ge (tgt := 28) E.1 E.2.1 dX5_find_6 (by decide) (fun c8 => ?_) (fun c8 => ?_)
      · replace hw := hw.1 (c8)
        refine lv_iconst (v := (-1)) E.1 E.2.1 dX5_find_28 rfl ?_
        exact tw_ireti E hr hlocks hT hS hw dX5_find_29
      · replace hw := hw.2 (c8)
        refine lv_aload_n E.1 E.2.1 dX5_find_9 rfl (lv_at hl 0 rfl) ?_
        refine lv_iload_n E.1 E.2.1 dX5_find_10 rfl (lv_at hl 1 rfl) ?_
        refine lv_iload E.1 E.2.1 dX5_find_11 (lv_at hl 4 rfl) ?_
        refine lv_iadd E.1 E.2.1 dX5_find_13 ?_
        obtain ⟨hta, hin, hw⟩ := hw
        refine tw_iald E hK hT k0 hta hin dX5_find_14 ?_
        refine lv_iload_n E.1 E.2.1 dX5_find_15 rfl (lv_at hl 3 rfl) ?_
        refine lv_icmp_ne (tgt := 22) E.1 E.2.1 dX5_find_16 (by decide) (fun c9 => ?_) (fun c9 => ?_)
        · replace hw := hw.1 (c9)
          refine lv_iinc (k := 4) (v := x6 + nI 1) (lv' := [(4, .int (x6 + nI 1)), (0, .ref (ta k0)), (1, .int (i1)), (2, .int (i2)), (3, .int (i3))]) E.1 E.2.1 dX5_find_22 hl rfl rfl (Nat.le_of_ble_eq_true rfl) rfl (fun ls hl => ?_)
          refine lv_goto (tgt := 3) E.1 E.2.1 dX5_find_25 (by decide) ?_
          obtain ⟨n10, hnn10, hin10⟩ := hw
          exact ih4 n10 hnn10 _ _ hin10 _ _ _ hT hS (lv_sub hl [1, 2, 3, 4, 0] rfl)
        · replace hw := hw.2 (c9)
          refine lv_iload E.1 E.2.1 dX5_find_19 (lv_at hl 4 rfl) ?_
          exact tw_ireti E hr hlocks hT hS hw dX5_find_21
  exact L5 n7 _ _ hi12 _ _ _ hT hS (lv_sub hl [1, 2, 3, 4, 0] rfl)
/-- isStay(I)Z -/
def wp_isStay (post : Bool → TS → Prop) (z0 : TS) (i1 : Int32) : Prop := wp_within (fun b2 z1 => post b2 z1) z0 i1 (nI 0) ((sx z0 34) - (nI 1))
theorem hd_isStay : yX5_isStay.cls = RX5 ∧ yX5_isStay.cls ≠ "java/lang/invoke/MethodHandle" ∧ yX5_isStay.cls ≠ "java/lang/invoke/VarHandle" ∧ (parseMethodDescriptor yX5_isStay.desc).map (fun d => d.parameters.length) = some 1 := by decide +kernel
set_option maxHeartbeats 4000000 in
theorem met_isStay (l : Launch) (G : GP) (ta : Nat → Nat) (d : Nat) {post : Bool → TS → Prop} {z0 : TS} {i1 : Int32} (hw : wp_isStay post z0 i1) : Met l yX5_isStay (ws_ yX5_isStay cX5_isStay 2 (some .boolean)) (rmd (d + 1) 0 0) (tPc G ta z0 [.ref (ta 73), .int (i1)]) (tQz G ta post) 0 0 (TA ta) := by
  unfold wp_isStay at hw
  refine tw_met (by decide) rfl (Nat.le_of_ble_eq_true rfl) ?_
  intro p e s m args below meth c ls E hr hlocks hK hT hS hl
  replace hl : lv_has ls 2 [(0, .ref (ta 73)), (1, .int (i1))] := hl
  refine lv_iload_n E.1 E.2.1 dX5_isStay_0 rfl (lv_at hl 1 rfl) ?_
  refine lv_iconst (v := nI 0) E.1 E.2.1 dX5_isStay_1 rfl ?_
  refine lv_aload_n E.1 E.2.1 dX5_isStay_2 rfl (lv_at hl 0 rfl) ?_
  refine tw_get E hK hT 34 (Nat.le_of_ble_eq_true rfl) q1844 rfl (v := .int (sx z0 34)) rfl dX5_isStay_3 ?_
  refine lv_iconst (v := nI 1) E.1 E.2.1 dX5_isStay_6 rfl ?_
  refine lv_isub E.1 E.2.1 dX5_isStay_7 ?_
  refine tw_callSz E hK hT hS (As := [.int (i1), .int (nI 0), .int ((sx z0 34) - (nI 1))]) (rest := []) (met_within l G ta (d) hw) (va_cwS 3 E.2.2.2.2 (lw_S q2048 q2049 q128 q2050) rfl rfl rfl hs_within (rm_ok (by omega) (by decide))) rfl rfl hl.1 (Nat.le_of_ble_eq_true rfl) dX5_isStay_8 (fun b2 z1 H locs hw hT hS => ?_)
  exact tw_iretz (b := b2) E hr hlocks hT hS rfl hw dX5_isStay_11
/-- canCome(II)Z -/
def wp_canCome (post : Bool → TS → Prop) (z0 : TS) (i1 : Int32) (i2 : Int32) : Prop := wp_isStay (fun b2 z1 => (b2 = false → post false z1) ∧ (b2 = true → wp_within (fun b5 z4 => (b5 = true → (i2 < (nI 1000) → vp_in (i1) 24 ∧ (i2 = (sf z4 35 i1.toNatClampNeg) → post false z4) ∧ (¬ i2 = (sf z4 35 i1.toNatClampNeg) → vp_in (i1) 24 ∧ ((nI 8) ≤ (sf z4 38 i1.toNatClampNeg) → post false z4) ∧ (¬ (nI 8) ≤ (sf z4 38 i1.toNatClampNeg) → vp_in (i1) 24 ∧ wp_find (fun r11 z10 => (0 ≤ r11 → post false z10) ∧ (¬ 0 ≤ r11 → post true z10)) z4 39 ((nI 8) * i1) (sf z4 38 i1.toNatClampNeg) i2))) ∧ (¬ i2 < (nI 1000) → vp_in (i1) 24 ∧ ((nI 6) ≤ (sf z4 40 i1.toNatClampNeg) → post false z4) ∧ (¬ (nI 6) ≤ (sf z4 40 i1.toNatClampNeg) → vp_in (i1) 24 ∧ wp_find (fun r15 z14 => (0 ≤ r15 → post false z14) ∧ (¬ 0 ≤ r15 → post true z14)) z4 41 ((nI 6) * i1) (sf z4 40 i1.toNatClampNeg) i2))) ∧ (b5 = false → post false z4)) z1 i2 (nI 0) (nI 1499))) z0 i1
theorem hd_canCome : yX5_canCome.cls = RX5 ∧ yX5_canCome.cls ≠ "java/lang/invoke/MethodHandle" ∧ yX5_canCome.cls ≠ "java/lang/invoke/VarHandle" ∧ (parseMethodDescriptor yX5_canCome.desc).map (fun d => d.parameters.length) = some 2 := by decide +kernel
set_option maxHeartbeats 4000000 in
theorem met_canCome (l : Launch) (G : GP) (ta : Nat → Nat) (d : Nat) {post : Bool → TS → Prop} {z0 : TS} {i1 : Int32} {i2 : Int32} (hw : wp_canCome post z0 i1 i2) : Met l yX5_canCome (ws_ yX5_canCome cX5_canCome 3 (some .boolean)) (rmd (d + 2) 0 0) (tPc G ta z0 [.ref (ta 73), .int (i1), .int (i2)]) (tQz G ta post) 0 0 (TA ta) := by
  unfold wp_canCome at hw
  refine tw_met (by decide) rfl (Nat.le_of_ble_eq_true rfl) ?_
  intro p e s m args below meth c ls E hr hlocks hK hT hS hl
  replace hl : lv_has ls 3 [(0, .ref (ta 73)), (1, .int (i1)), (2, .int (i2))] := hl
  refine lv_aload_n E.1 E.2.1 dX5_canCome_0 rfl (lv_at hl 0 rfl) ?_
  refine lv_iload_n E.1 E.2.1 dX5_canCome_1 rfl (lv_at hl 1 rfl) ?_
  refine tw_callVz E hK hT hS (As := [.int (i1)]) (rest := []) (met_isStay l G ta (d) hw) (cwV 1 E.2.2.2.2 (lw_V q2294 q2296 qs102 q128 q2297) rfl rfl rfl hd_isStay (rm_ok (by omega) (by decide))) rfl rfl hl.1 (Nat.le_of_ble_eq_true rfl) dX5_canCome_2 (fun b2 z1 H locs hw hT hS => ?_)
  refine lv_if_eq (tgt := 19) E.1 E.2.1 dX5_canCome_5 (by decide) (fun c3 => ?_) (fun c3 => ?_)
  · replace hw := hw.1 (bi_z c3)
    refine lv_iconst (v := nI 0) E.1 E.2.1 dX5_canCome_19 rfl ?_
    exact tw_iretz (b := false) E hr hlocks hT hS rfl hw dX5_canCome_20
  · replace hw := hw.2 (bi_n c3)
    refine lv_iload_n E.1 E.2.1 dX5_canCome_8 rfl (lv_at hl 2 rfl) ?_
    refine lv_iconst (v := nI 0) E.1 E.2.1 dX5_canCome_9 rfl ?_
    refine lv_sipush (v := nI 1499) E.1 E.2.1 dX5_canCome_10 rfl ?_
    refine tw_callSz E hK hT hS (As := [.int (i2), .int (nI 0), .int (nI 1499)]) (rest := []) (met_within l G ta (d + 1) hw) (va_cwS 3 E.2.2.2.2 (lw_S q2048 q2049 q128 q2050) rfl rfl rfl hs_within (rm_ok (by omega) (by decide))) rfl rfl hl.1 (Nat.le_of_ble_eq_true rfl) dX5_canCome_13 (fun b5 z4 H locs hw hT hS => ?_)
    refine lv_if_ne (tgt := 21) E.1 E.2.1 dX5_canCome_16 (by decide) (fun c6 => ?_) (fun c6 => ?_)
    · replace hw := hw.1 (bi_n c6)
      refine lv_iload_n E.1 E.2.1 dX5_canCome_21 rfl (lv_at hl 2 rfl) ?_
      refine lv_sipush (v := nI 1000) E.1 E.2.1 dX5_canCome_22 rfl ?_
      refine lv_icmp_lt (tgt := 66) E.1 E.2.1 dX5_canCome_25 (by decide) (fun c7 => ?_) (fun c7 => ?_)
      · replace hw := hw.1 (c7)
        refine lv_iload_n E.1 E.2.1 dX5_canCome_66 rfl (lv_at hl 2 rfl) ?_
        refine lv_aload_n E.1 E.2.1 dX5_canCome_67 rfl (lv_at hl 0 rfl) ?_
        refine tw_get E hK hT 35 (Nat.le_of_ble_eq_true rfl) q1845 rfl (v := .ref (ta 35)) rfl dX5_canCome_68 ?_
        refine lv_iload_n E.1 E.2.1 dX5_canCome_71 rfl (lv_at hl 1 rfl) ?_
        obtain ⟨hin, hw⟩ := hw
        refine tw_iald E hK hT 35 rfl hin dX5_canCome_72 ?_
        refine lv_icmp_eq (tgt := 112) E.1 E.2.1 dX5_canCome_73 (by decide) (fun c8 => ?_) (fun c8 => ?_)
        · replace hw := hw.1 (c8)
          refine lv_iconst (v := nI 0) E.1 E.2.1 dX5_canCome_112 rfl ?_
          exact tw_iretz (b := false) E hr hlocks hT hS rfl hw dX5_canCome_113
        · replace hw := hw.2 (c8)
          refine lv_aload_n E.1 E.2.1 dX5_canCome_76 rfl (lv_at hl 0 rfl) ?_
          refine tw_get E hK hT 38 (Nat.le_of_ble_eq_true rfl) q1848 rfl (v := .ref (ta 38)) rfl dX5_canCome_77 ?_
          refine lv_iload_n E.1 E.2.1 dX5_canCome_80 rfl (lv_at hl 1 rfl) ?_
          obtain ⟨hin, hw⟩ := hw
          refine tw_iald E hK hT 38 rfl hin dX5_canCome_81 ?_
          refine lv_bipush (v := nI 8) E.1 E.2.1 dX5_canCome_82 rfl ?_
          refine lv_icmp_ge (tgt := 112) E.1 E.2.1 dX5_canCome_84 (by decide) (fun c9 => ?_) (fun c9 => ?_)
          · replace hw := hw.1 (c9)
            refine lv_iconst (v := nI 0) E.1 E.2.1 dX5_canCome_112 rfl ?_
            exact tw_iretz (b := false) E hr hlocks hT hS rfl hw dX5_canCome_113
          · replace hw := hw.2 (c9)
            refine lv_aload_n E.1 E.2.1 dX5_canCome_87 rfl (lv_at hl 0 rfl) ?_
            refine tw_get E hK hT 39 (Nat.le_of_ble_eq_true rfl) q1849 rfl (v := .ref (ta 39)) rfl dX5_canCome_88 ?_
            refine lv_bipush (v := nI 8) E.1 E.2.1 dX5_canCome_91 rfl ?_
            refine lv_iload_n E.1 E.2.1 dX5_canCome_93 rfl (lv_at hl 1 rfl) ?_
            refine lv_imul E.1 E.2.1 dX5_canCome_94 ?_
            refine lv_aload_n E.1 E.2.1 dX5_canCome_95 rfl (lv_at hl 0 rfl) ?_
            refine tw_get E hK hT 38 (Nat.le_of_ble_eq_true rfl) q1848 rfl (v := .ref (ta 38)) rfl dX5_canCome_96 ?_
            refine lv_iload_n E.1 E.2.1 dX5_canCome_99 rfl (lv_at hl 1 rfl) ?_
            obtain ⟨hin, hw⟩ := hw
            refine tw_iald E hK hT 38 rfl hin dX5_canCome_100 ?_
            refine lv_iload_n E.1 E.2.1 dX5_canCome_101 rfl (lv_at hl 2 rfl) ?_
            refine tw_callSi E hK hT hS (As := [.ref (ta 39), .int ((nI 8) * i1), .int (sf z4 38 i1.toNatClampNeg), .int (i2)]) (rest := []) (met_find l G ta (d + 1) hw) (va_cwS 4 E.2.2.2.2 (lw_S q2298 q2299 q128 q2300) rfl rfl rfl hs_find (rm_ok (by omega) (by decide))) rfl rfl hl.1 (Nat.le_of_ble_eq_true rfl) dX5_canCome_102 (fun r11 z10 H locs hw hT hS => ?_)
            refine lv_if_ge (tgt := 112) E.1 E.2.1 dX5_canCome_105 (by decide) (fun c12 => ?_) (fun c12 => ?_)
            · replace hw := hw.1 (c12)
              refine lv_iconst (v := nI 0) E.1 E.2.1 dX5_canCome_112 rfl ?_
              exact tw_iretz (b := false) E hr hlocks hT hS rfl hw dX5_canCome_113
            · replace hw := hw.2 (c12)
              refine lv_iconst (v := nI 1) E.1 E.2.1 dX5_canCome_108 rfl ?_
              refine lv_goto (tgt := 113) E.1 E.2.1 dX5_canCome_109 (by decide) ?_
              exact tw_iretz (b := true) E hr hlocks hT hS rfl hw dX5_canCome_113
      · replace hw := hw.2 (c7)
        refine lv_aload_n E.1 E.2.1 dX5_canCome_28 rfl (lv_at hl 0 rfl) ?_
        refine tw_get E hK hT 40 (Nat.le_of_ble_eq_true rfl) q1850 rfl (v := .ref (ta 40)) rfl dX5_canCome_29 ?_
        refine lv_iload_n E.1 E.2.1 dX5_canCome_32 rfl (lv_at hl 1 rfl) ?_
        obtain ⟨hin, hw⟩ := hw
        refine tw_iald E hK hT 40 rfl hin dX5_canCome_33 ?_
        refine lv_bipush (v := nI 6) E.1 E.2.1 dX5_canCome_34 rfl ?_
        refine lv_icmp_ge (tgt := 64) E.1 E.2.1 dX5_canCome_36 (by decide) (fun c13 => ?_) (fun c13 => ?_)
        · replace hw := hw.1 (c13)
          refine lv_iconst (v := nI 0) E.1 E.2.1 dX5_canCome_64 rfl ?_
          exact tw_iretz (b := false) E hr hlocks hT hS rfl hw dX5_canCome_65
        · replace hw := hw.2 (c13)
          refine lv_aload_n E.1 E.2.1 dX5_canCome_39 rfl (lv_at hl 0 rfl) ?_
          refine tw_get E hK hT 41 (Nat.le_of_ble_eq_true rfl) q1851 rfl (v := .ref (ta 41)) rfl dX5_canCome_40 ?_
          refine lv_bipush (v := nI 6) E.1 E.2.1 dX5_canCome_43 rfl ?_
          refine lv_iload_n E.1 E.2.1 dX5_canCome_45 rfl (lv_at hl 1 rfl) ?_
          refine lv_imul E.1 E.2.1 dX5_canCome_46 ?_
          refine lv_aload_n E.1 E.2.1 dX5_canCome_47 rfl (lv_at hl 0 rfl) ?_
          refine tw_get E hK hT 40 (Nat.le_of_ble_eq_true rfl) q1850 rfl (v := .ref (ta 40)) rfl dX5_canCome_48 ?_
          refine lv_iload_n E.1 E.2.1 dX5_canCome_51 rfl (lv_at hl 1 rfl) ?_
          obtain ⟨hin, hw⟩ := hw
          refine tw_iald E hK hT 40 rfl hin dX5_canCome_52 ?_
          refine lv_iload_n E.1 E.2.1 dX5_canCome_53 rfl (lv_at hl 2 rfl) ?_
          refine tw_callSi E hK hT hS (As := [.ref (ta 41), .int ((nI 6) * i1), .int (sf z4 40 i1.toNatClampNeg), .int (i2)]) (rest := []) (met_find l G ta (d + 1) hw) (va_cwS 4 E.2.2.2.2 (lw_S q2298 q2299 q128 q2300) rfl rfl rfl hs_find (rm_ok (by omega) (by decide))) rfl rfl hl.1 (Nat.le_of_ble_eq_true rfl) dX5_canCome_54 (fun r15 z14 H locs hw hT hS => ?_)
          refine lv_if_ge (tgt := 64) E.1 E.2.1 dX5_canCome_57 (by decide) (fun c16 => ?_) (fun c16 => ?_)
          · replace hw := hw.1 (c16)
            refine lv_iconst (v := nI 0) E.1 E.2.1 dX5_canCome_64 rfl ?_
            exact tw_iretz (b := false) E hr hlocks hT hS rfl hw dX5_canCome_65
          · replace hw := hw.2 (c16)
            refine lv_iconst (v := nI 1) E.1 E.2.1 dX5_canCome_60 rfl ?_
            refine lv_goto (tgt := 65) E.1 E.2.1 dX5_canCome_61 (by decide) ?_
            exact tw_iretz (b := true) E hr hlocks hT hS rfl hw dX5_canCome_65
    · replace hw := hw.2 (bi_z c6)
      refine lv_iconst (v := nI 0) E.1 E.2.1 dX5_canCome_19 rfl ?_
      exact tw_iretz (b := false) E hr hlocks hT hS rfl hw dX5_canCome_20
/-- code(II)I -/
def wp_code (post : Int32 → TS → Prop) (z0 : TS) (i1 : Int32) (i2 : Int32) : Prop := ∀ z1, z1 = ux z0 2 (nI 0) → wp_canCome (fun b3 z2 => (b3 = true → wp_adds (fun z5 => (i2 < (nI 1000) → vp_in (i1) 24 ∧ post (sf z5 38 i1.toNatClampNeg) z5) ∧ (¬ i2 < (nI 1000) → vp_in (i1) 24 ∧ post (sf z5 40 i1.toNatClampNeg) z5)) z2 i1 i2) ∧ (b3 = false → post ((-1)) z2)) z1 i1 i2
theorem hd_code : yX5_code.cls = RX5 ∧ yX5_code.cls ≠ "java/lang/invoke/MethodHandle" ∧ yX5_code.cls ≠ "java/lang/invoke/VarHandle" ∧ (parseMethodDescriptor yX5_code.desc).map (fun d => d.parameters.length) = some 2 := by decide +kernel
set_option maxHeartbeats 4000000 in
theorem met_code (l : Launch) (G : GP) (ta : Nat → Nat) (d : Nat) {post : Int32 → TS → Prop} {z0 : TS} {i1 : Int32} {i2 : Int32} (hw : wp_code post z0 i1 i2) : Met l yX5_code (ws_ yX5_code cX5_code 3 (some .int)) (rmd (d + 3) 0 0) (tPc G ta z0 [.ref (ta 73), .int (i1), .int (i2)]) (tQi G ta post) 0 0 (TA ta) := by
  unfold wp_code at hw
  refine tw_met (by decide) rfl (Nat.le_of_ble_eq_true rfl) ?_
  intro p e s m args below meth c ls E hr hlocks hK hT hS hl
  replace hl : lv_has ls 3 [(0, .ref (ta 73)), (1, .int (i1)), (2, .int (i2))] := hl
  refine lv_aload_n E.1 E.2.1 dX5_code_0 rfl (lv_at hl 0 rfl) ?_
  refine lv_iconst (v := nI 0) E.1 E.2.1 dX5_code_1 rfl ?_
  refine tw_puti E hK hT hS 2 (Nat.le_of_ble_eq_true rfl) q1812 rfl rfl rfl rfl dX5_code_2 (fun H locs hT hS => ?_)
  obtain ⟨z1, ez1⟩ : ∃ y, y = ux z0 2 (nI 0) := ⟨_, rfl⟩
  rw [← ez1] at hT
  replace hw := hw z1 ez1
  refine lv_aload_n E.1 E.2.1 dX5_code_5 rfl (lv_at hl 0 rfl) ?_
  refine lv_iload_n E.1 E.2.1 dX5_code_6 rfl (lv_at hl 1 rfl) ?_
  refine lv_iload_n E.1 E.2.1 dX5_code_7 rfl (lv_at hl 2 rfl) ?_
  refine tw_callVz E hK hT hS (As := [.int (i1), .int (i2)]) (rest := []) (met_canCome l G ta (d) hw) (cwV 2 E.2.2.2.2 (lw_V q2290 q2292 qs101 q128 q2293) rfl rfl rfl hd_canCome (rm_ok (by omega) (by decide))) rfl rfl hl.1 (Nat.le_of_ble_eq_true rfl) dX5_code_8 (fun b3 z2 H locs hw hT hS => ?_)
  refine lv_if_ne (tgt := 16) E.1 E.2.1 dX5_code_11 (by decide) (fun c4 => ?_) (fun c4 => ?_)
  · replace hw := hw.1 (bi_n c4)
    refine lv_aload_n E.1 E.2.1 dX5_code_16 rfl (lv_at hl 0 rfl) ?_
    refine lv_iload_n E.1 E.2.1 dX5_code_17 rfl (lv_at hl 1 rfl) ?_
    refine lv_iload_n E.1 E.2.1 dX5_code_18 rfl (lv_at hl 2 rfl) ?_
    refine tw_callVv E hK hT hS (As := [.int (i1), .int (i2)]) (rest := []) (met_adds l G ta (d + 1) hw) (cwV 2 E.2.2.2.2 (lw_V q2301 q2303 qs103 q128 q2304) rfl rfl rfl hd_adds (rm_ok (by omega) (by decide))) rfl rfl hl.1 (Nat.le_of_ble_eq_true rfl) dX5_code_19 (fun z5 H locs hw hT hS => ?_)
    refine lv_iload_n E.1 E.2.1 dX5_code_22 rfl (lv_at hl 2 rfl) ?_
    refine lv_sipush (v := nI 1000) E.1 E.2.1 dX5_code_23 rfl ?_
    refine lv_icmp_lt (tgt := 38) E.1 E.2.1 dX5_code_26 (by decide) (fun c6 => ?_) (fun c6 => ?_)
    · replace hw := hw.1 (c6)
      refine lv_aload_n E.1 E.2.1 dX5_code_38 rfl (lv_at hl 0 rfl) ?_
      refine tw_get E hK hT 38 (Nat.le_of_ble_eq_true rfl) q1848 rfl (v := .ref (ta 38)) rfl dX5_code_39 ?_
      refine lv_iload_n E.1 E.2.1 dX5_code_42 rfl (lv_at hl 1 rfl) ?_
      obtain ⟨hin, hw⟩ := hw
      refine tw_iald E hK hT 38 rfl hin dX5_code_43 ?_
      exact tw_ireti E hr hlocks hT hS hw dX5_code_44
    · replace hw := hw.2 (c6)
      refine lv_aload_n E.1 E.2.1 dX5_code_29 rfl (lv_at hl 0 rfl) ?_
      refine tw_get E hK hT 40 (Nat.le_of_ble_eq_true rfl) q1850 rfl (v := .ref (ta 40)) rfl dX5_code_30 ?_
      refine lv_iload_n E.1 E.2.1 dX5_code_33 rfl (lv_at hl 1 rfl) ?_
      obtain ⟨hin, hw⟩ := hw
      refine tw_iald E hK hT 40 rfl hin dX5_code_34 ?_
      refine lv_goto (tgt := 44) E.1 E.2.1 dX5_code_35 (by decide) ?_
      exact tw_ireti E hr hlocks hT hS hw dX5_code_44
  · replace hw := hw.2 (bi_z c4)
    refine lv_iconst (v := (-1)) E.1 E.2.1 dX5_code_14 rfl ?_
    exact tw_ireti E hr hlocks hT hS hw dX5_code_15
/-- canGo(II)Z -/
def wp_canGo (post : Bool → TS → Prop) (z0 : TS) (i1 : Int32) (i2 : Int32) : Prop := wp_isStay (fun b2 z1 => (b2 = true → (i2 < (nI 1000) → vp_in (i1) 24 ∧ wp_find (fun r6 z5 => (r6 < 0 → post false z5) ∧ (¬ r6 < 0 → post true z5)) z1 39 ((nI 8) * i1) (sf z1 38 i1.toNatClampNeg) i2) ∧ (¬ i2 < (nI 1000) → vp_in (i1) 24 ∧ wp_find (fun r9 z8 => (r9 < 0 → post false z8) ∧ (¬ r9 < 0 → post true z8)) z1 41 ((nI 6) * i1) (sf z1 40 i1.toNatClampNeg) i2)) ∧ (b2 = false → post false z1)) z0 i1
theorem hd_canGo : yX5_canGo.cls = RX5 ∧ yX5_canGo.cls ≠ "java/lang/invoke/MethodHandle" ∧ yX5_canGo.cls ≠ "java/lang/invoke/VarHandle" ∧ (parseMethodDescriptor yX5_canGo.desc).map (fun d => d.parameters.length) = some 2 := by decide +kernel
set_option maxHeartbeats 4000000 in
theorem met_canGo (l : Launch) (G : GP) (ta : Nat → Nat) (d : Nat) {post : Bool → TS → Prop} {z0 : TS} {i1 : Int32} {i2 : Int32} (hw : wp_canGo post z0 i1 i2) : Met l yX5_canGo (ws_ yX5_canGo cX5_canGo 3 (some .boolean)) (rmd (d + 2) 0 0) (tPc G ta z0 [.ref (ta 73), .int (i1), .int (i2)]) (tQz G ta post) 0 0 (TA ta) := by
  unfold wp_canGo at hw
  refine tw_met (by decide) rfl (Nat.le_of_ble_eq_true rfl) ?_
  intro p e s m args below meth c ls E hr hlocks hK hT hS hl
  replace hl : lv_has ls 3 [(0, .ref (ta 73)), (1, .int (i1)), (2, .int (i2))] := hl
  refine lv_aload_n E.1 E.2.1 dX5_canGo_0 rfl (lv_at hl 0 rfl) ?_
  refine lv_iload_n E.1 E.2.1 dX5_canGo_1 rfl (lv_at hl 1 rfl) ?_
  refine tw_callVz E hK hT hS (As := [.int (i1)]) (rest := []) (met_isStay l G ta (d) hw) (cwV 1 E.2.2.2.2 (lw_V q2294 q2296 qs102 q128 q2297) rfl rfl rfl hd_isStay (rm_ok (by omega) (by decide))) rfl rfl hl.1 (Nat.le_of_ble_eq_true rfl) dX5_canGo_2 (fun b2 z1 H locs hw hT hS => ?_)
  refine lv_if_ne (tgt := 10) E.1 E.2.1 dX5_canGo_5 (by decide) (fun c3 => ?_) (fun c3 => ?_)
  · replace hw := hw.1 (bi_n c3)
    refine lv_iload_n E.1 E.2.1 dX5_canGo_10 rfl (lv_at hl 2 rfl) ?_
    refine lv_sipush (v := nI 1000) E.1 E.2.1 dX5_canGo_11 rfl ?_
    refine lv_icmp_lt (tgt := 46) E.1 E.2.1 dX5_canGo_14 (by decide) (fun c4 => ?_) (fun c4 => ?_)
    · replace hw := hw.1 (c4)
      refine lv_aload_n E.1 E.2.1 dX5_canGo_46 rfl (lv_at hl 0 rfl) ?_
      refine tw_get E hK hT 39 (Nat.le_of_ble_eq_true rfl) q1849 rfl (v := .ref (ta 39)) rfl dX5_canGo_47 ?_
      refine lv_bipush (v := nI 8) E.1 E.2.1 dX5_canGo_50 rfl ?_
      refine lv_iload_n E.1 E.2.1 dX5_canGo_52 rfl (lv_at hl 1 rfl) ?_
      refine lv_imul E.1 E.2.1 dX5_canGo_53 ?_
      refine lv_aload_n E.1 E.2.1 dX5_canGo_54 rfl (lv_at hl 0 rfl) ?_
      refine tw_get E hK hT 38 (Nat.le_of_ble_eq_true rfl) q1848 rfl (v := .ref (ta 38)) rfl dX5_canGo_55 ?_
      refine lv_iload_n E.1 E.2.1 dX5_canGo_58 rfl (lv_at hl 1 rfl) ?_
      obtain ⟨hin, hw⟩ := hw
      refine tw_iald E hK hT 38 rfl hin dX5_canGo_59 ?_
      refine lv_iload_n E.1 E.2.1 dX5_canGo_60 rfl (lv_at hl 2 rfl) ?_
      refine tw_callSi E hK hT hS (As := [.ref (ta 39), .int ((nI 8) * i1), .int (sf z1 38 i1.toNatClampNeg), .int (i2)]) (rest := []) (met_find l G ta (d + 1) hw) (va_cwS 4 E.2.2.2.2 (lw_S q2298 q2299 q128 q2300) rfl rfl rfl hs_find (rm_ok (by omega) (by decide))) rfl rfl hl.1 (Nat.le_of_ble_eq_true rfl) dX5_canGo_61 (fun r6 z5 H locs hw hT hS => ?_)
      refine lv_if_lt (tgt := 71) E.1 E.2.1 dX5_canGo_64 (by decide) (fun c7 => ?_) (fun c7 => ?_)
      · replace hw := hw.1 (c7)
        refine lv_iconst (v := nI 0) E.1 E.2.1 dX5_canGo_71 rfl ?_
        exact tw_iretz (b := false) E hr hlocks hT hS rfl hw dX5_canGo_72
      · replace hw := hw.2 (c7)
        refine lv_iconst (v := nI 1) E.1 E.2.1 dX5_canGo_67 rfl ?_
        refine lv_goto (tgt := 72) E.1 E.2.1 dX5_canGo_68 (by decide) ?_
        exact tw_iretz (b := true) E hr hlocks hT hS rfl hw dX5_canGo_72
    · replace hw := hw.2 (c4)
      refine lv_aload_n E.1 E.2.1 dX5_canGo_17 rfl (lv_at hl 0 rfl) ?_
      refine tw_get E hK hT 41 (Nat.le_of_ble_eq_true rfl) q1851 rfl (v := .ref (ta 41)) rfl dX5_canGo_18 ?_
      refine lv_bipush (v := nI 6) E.1 E.2.1 dX5_canGo_21 rfl ?_
      refine lv_iload_n E.1 E.2.1 dX5_canGo_23 rfl (lv_at hl 1 rfl) ?_
      refine lv_imul E.1 E.2.1 dX5_canGo_24 ?_
      refine lv_aload_n E.1 E.2.1 dX5_canGo_25 rfl (lv_at hl 0 rfl) ?_
      refine tw_get E hK hT 40 (Nat.le_of_ble_eq_true rfl) q1850 rfl (v := .ref (ta 40)) rfl dX5_canGo_26 ?_
      refine lv_iload_n E.1 E.2.1 dX5_canGo_29 rfl (lv_at hl 1 rfl) ?_
      obtain ⟨hin, hw⟩ := hw
      refine tw_iald E hK hT 40 rfl hin dX5_canGo_30 ?_
      refine lv_iload_n E.1 E.2.1 dX5_canGo_31 rfl (lv_at hl 2 rfl) ?_
      refine tw_callSi E hK hT hS (As := [.ref (ta 41), .int ((nI 6) * i1), .int (sf z1 40 i1.toNatClampNeg), .int (i2)]) (rest := []) (met_find l G ta (d + 1) hw) (va_cwS 4 E.2.2.2.2 (lw_S q2298 q2299 q128 q2300) rfl rfl rfl hs_find (rm_ok (by omega) (by decide))) rfl rfl hl.1 (Nat.le_of_ble_eq_true rfl) dX5_canGo_32 (fun r9 z8 H locs hw hT hS => ?_)
      refine lv_if_lt (tgt := 42) E.1 E.2.1 dX5_canGo_35 (by decide) (fun c10 => ?_) (fun c10 => ?_)
      · replace hw := hw.1 (c10)
        refine lv_iconst (v := nI 0) E.1 E.2.1 dX5_canGo_42 rfl ?_
        refine lv_goto (tgt := 72) E.1 E.2.1 dX5_canGo_43 (by decide) ?_
        exact tw_iretz (b := false) E hr hlocks hT hS rfl hw dX5_canGo_72
      · replace hw := hw.2 (c10)
        refine lv_iconst (v := nI 1) E.1 E.2.1 dX5_canGo_38 rfl ?_
        refine lv_goto (tgt := 72) E.1 E.2.1 dX5_canGo_39 (by decide) ?_
        exact tw_iretz (b := true) E hr hlocks hT hS rfl hw dX5_canGo_72
  · replace hw := hw.2 (bi_z c3)
    refine lv_iconst (v := nI 0) E.1 E.2.1 dX5_canGo_8 rfl ?_
    exact tw_iretz (b := false) E hr hlocks hT hS rfl hw dX5_canGo_9
/-- goes([IIII)V -/
def wp_goes (post : TS → Prop) (z0 : TS) (k0 : Nat) (i1 : Int32) (i2 : Int32) (i3 : Int32) : Prop := wp_find (fun r2 z1 => ∃ I3 : Nat → TS → Int32 → Prop, (∃ n9, I3 n9 z1 r2) ∧ ∀ (n4 : Nat) (z5 : TS) (x8 : Int32), I3 n4 z5 x8 → (i2 ≤ (x8 + (nI 1)) → post z5) ∧ (¬ i2 ≤ (x8 + (nI 1)) → tai k0 = true ∧ vp_in ((i1 + x8) + (nI 1)) (tlen k0) ∧ tai k0 = true ∧ vp_in (i1 + x8) (tlen k0) ∧ ∀ z11, z11 = uf z5 k0 (i1 + x8).toNatClampNeg (sf z5 k0 ((i1 + x8) + (nI 1)).toNatClampNeg) → ∃ n12, n12 < n4 ∧ I3 n12 z11 (x8 + nI 1))) z0 k0 i1 i2 i3
theorem hs_goes : yX5_goes.cls ≠ "java/lang/invoke/MethodHandle" ∧ yX5_goes.cls ≠ "java/lang/invoke/VarHandle" ∧ (parseMethodDescriptor yX5_goes.desc).map (fun d => d.parameters.length) = some 4 := by decide +kernel
set_option maxHeartbeats 4000000 in
theorem met_goes (l : Launch) (G : GP) (ta : Nat → Nat) (d : Nat) {post : TS → Prop} {z0 : TS} {k0 : Nat} {i1 : Int32} {i2 : Int32} {i3 : Int32} (hw : wp_goes post z0 k0 i1 i2 i3) : Met l yX5_goes (ws_ yX5_goes cX5_goes 6 none) (rmd (d + 1) 0 0) (tPc G ta z0 [.ref (ta k0), .int (i1), .int (i2), .int (i3)]) (tQv G ta post) 0 0 (TA ta) := by
  unfold wp_goes at hw
  refine tw_met (by decide) rfl (Nat.le_of_ble_eq_true rfl) ?_
  intro p e s m args below meth c ls E hr hlocks hK hT hS hl
  replace hl : lv_has ls 6 [(0, .ref (ta k0)), (1, .int (i1)), (2, .int (i2)), (3, .int (i3))] := hl
  refine lv_aload_n E.1 E.2.1 dX5_goes_0 rfl (lv_at hl 0 rfl) ?_
  refine lv_iload_n E.1 E.2.1 dX5_goes_1 rfl (lv_at hl 1 rfl) ?_
  refine lv_iload_n E.1 E.2.1 dX5_goes_2 rfl (lv_at hl 2 rfl) ?_
  refine lv_iload_n E.1 E.2.1 dX5_goes_3 rfl (lv_at hl 3 rfl) ?_
  refine tw_callSi E hK hT hS (As := [.ref (ta k0), .int (i1), .int (i2), .int (i3)]) (rest := []) (met_find l G ta (d) hw) (va_cwS 4 E.2.2.2.2 (lw_S q2298 q2299 q128 q2300) rfl rfl rfl hs_find (rm_ok (by omega) (by decide))) rfl rfl hl.1 (Nat.le_of_ble_eq_true rfl) dX5_goes_4 (fun r2 z1 H locs hw hT hS => ?_)
  refine lv_istore (lv' := [(4, .int (r2)), (0, .ref (ta k0)), (1, .int (i1)), (2, .int (i2)), (3, .int (i3))]) E.1 E.2.1 dX5_goes_7 hl (Nat.le_of_ble_eq_true rfl) rfl (fun ls hl => ?_)
  refine lv_iload E.1 E.2.1 dX5_goes_9 (lv_at hl 0 rfl) ?_
  refine lv_istore (lv' := [(5, .int (r2)), (4, .int (r2)), (0, .ref (ta k0)), (1, .int (i1)), (2, .int (i2)), (3, .int (i3))]) E.1 E.2.1 dX5_goes_11 hl (Nat.le_of_ble_eq_true rfl) rfl (fun ls hl => ?_)
  obtain ⟨I3, ⟨n9, hi14⟩, hb13⟩ := hw
  have L7 : ∀ (n4 : Nat) (z5 : TS) (x8 : Int32), I3 n4 z5 x8 → ∀ (H : Heap) (locs : List Loc) (ls : Array Slot), TW G ta z5 H → va_S (TA ta) s.heap H locs → lv_has ls 6 [(0, .ref (ta k0)), (1, .int (i1)), (2, .int (i2)), (5, .int (x8))] → W p l e (rmd (d + 1) 0 0) s m args below meth c H locs 0 0 (MQ below (tQv G ta post) args s 0 0 (TA ta)) (F0 m 13 ls []) := by
    intro n4
    induction n4 using Nat.strongRecOn with
    | _ n4 ih6 =>
      intro z5 x8 hw H locs ls hT hS hl
      replace hw := hb13 n4 z5 x8 hw
      refine lv_iload E.1 E.2.1 dX5_goes_13 (lv_at hl 3 rfl) ?_
      refine lv_iconst (v := nI 1) E.1 E.2.1 dX5_goes_15 rfl ?_
      refine lv_iadd E.1 E.2.1 dX5_goes_16 ?_
      refine lv_iload_n E.1 E.2.1 dX5_goes_17 rfl (lv_at hl 2 rfl) ?_
      refine lv_icmp_ge (tgt := 41) E.1 E.2.1 dX5_goes_18 (by decide) (fun c10 => ?_) (fun c10 => ?_)
      · replace hw := hw.1 (c10)
        exact tw_vret E hr hlocks hT hS hw dX5_goes_41
      · replace hw := hw.2 (c10)
        refine lv_aload_n E.1 E.2.1 dX5_goes_21 rfl (lv_at hl 0 rfl) ?_
        refine lv_iload_n E.1 E.2.1 dX5_goes_22 rfl (lv_at hl 1 rfl) ?_
        refine lv_iload E.1 E.2.1 dX5_goes_23 (lv_at hl 3 rfl) ?_
        refine lv_iadd E.1 E.2.1 dX5_goes_25 ?_
        refine lv_aload_n E.1 E.2.1 dX5_goes_26 rfl (lv_at hl 0 rfl) ?_
        refine lv_iload_n E.1 E.2.1 dX5_goes_27 rfl (lv_at hl 1 rfl) ?_
        refine lv_iload E.1 E.2.1 dX5_goes_28 (lv_at hl 3 rfl) ?_
        refine lv_iadd E.1 E.2.1 dX5_goes_30 ?_
        refine lv_iconst (v := nI 1) E.1 E.2.1 dX5_goes_31 rfl ?_
        refine lv_iadd E.1 E.2.1 dX5_goes_32 ?_
        obtain ⟨hta, hin, hw⟩ := hw
        refine tw_iald E hK hT k0 hta hin dX5_goes_33 ?_
        obtain ⟨hta, hin, hw⟩ := hw
        refine tw_iast E hK hT hS k0 hta hin dX5_goes_34 (fun H locs hT hS => ?_)
        obtain ⟨z11, ez11⟩ : ∃ y, y = uf z5 k0 (i1 + x8).toNatClampNeg (sf z5 k0 ((i1 + x8) + (nI 1)).toNatClampNeg) := ⟨_, rfl⟩
        rw [← ez11] at hT
        replace hw := hw z11 ez11
        refine lv_iinc (k := 3) (v := x8 + nI 1) (lv' := [(5, .int (x8 + nI 1)), (0, .ref (ta k0)), (1, .int (i1)), (2, .int (i2))]) E.1 E.2.1 dX5_goes_35 hl rfl rfl (Nat.le_of_ble_eq_true rfl) rfl (fun ls hl => ?_)
        refine lv_goto (tgt := 13) E.1 E.2.1 dX5_goes_38 (by decide) ?_
        obtain ⟨n12, hnn12, hin12⟩ := hw
        exact ih6 n12 hnn12 _ _ hin12 _ _ _ hT hS (lv_sub hl [1, 2, 3, 0] rfl)
  exact L7 n9 _ _ hi14 _ _ _ hT hS (lv_sub hl [2, 3, 4, 0] rfl)
/-- takes(II)V -/
def wp_takes (post : TS → Prop) (z0 : TS) (i1 : Int32) (i2 : Int32) : Prop := (i2 < (nI 1000) → vp_in (i1) 24 ∧ wp_goes (fun z2 => vp_in (i1) 24 ∧ vp_in (i1) 24 ∧ ∀ z3, z3 = uf z2 38 i1.toNatClampNeg ((sf z2 38 i1.toNatClampNeg) - (nI 1)) → post z3) z0 39 ((nI 8) * i1) (sf z0 38 i1.toNatClampNeg) i2) ∧ (¬ i2 < (nI 1000) → vp_in (i1) 24 ∧ wp_goes (fun z4 => vp_in (i1) 24 ∧ vp_in (i1) 24 ∧ ∀ z5, z5 = uf z4 40 i1.toNatClampNeg ((sf z4 40 i1.toNatClampNeg) - (nI 1)) → post z5) z0 41 ((nI 6) * i1) (sf z0 40 i1.toNatClampNeg) i2)
theorem hd_takes : yX5_takes.cls = RX5 ∧ yX5_takes.cls ≠ "java/lang/invoke/MethodHandle" ∧ yX5_takes.cls ≠ "java/lang/invoke/VarHandle" ∧ (parseMethodDescriptor yX5_takes.desc).map (fun d => d.parameters.length) = some 2 := by decide +kernel
set_option maxHeartbeats 4000000 in
theorem met_takes (l : Launch) (G : GP) (ta : Nat → Nat) (d : Nat) {post : TS → Prop} {z0 : TS} {i1 : Int32} {i2 : Int32} (hw : wp_takes post z0 i1 i2) : Met l yX5_takes (ws_ yX5_takes cX5_takes 3 none) (rmd (d + 2) 0 0) (tPc G ta z0 [.ref (ta 73), .int (i1), .int (i2)]) (tQv G ta post) 0 0 (TA ta) := by
  unfold wp_takes at hw
  refine tw_met (by decide) rfl (Nat.le_of_ble_eq_true rfl) ?_
  intro p e s m args below meth c ls E hr hlocks hK hT hS hl
  replace hl : lv_has ls 3 [(0, .ref (ta 73)), (1, .int (i1)), (2, .int (i2))] := hl
  refine lv_iload_n E.1 E.2.1 dX5_takes_0 rfl (lv_at hl 2 rfl) ?_
  refine lv_sipush (v := nI 1000) E.1 E.2.1 dX5_takes_1 rfl ?_
  refine lv_icmp_lt (tgt := 38) E.1 E.2.1 dX5_takes_4 (by decide) (fun c1 => ?_) (fun c1 => ?_)
  · replace hw := hw.1 (c1)
    refine lv_aload_n E.1 E.2.1 dX5_takes_38 rfl (lv_at hl 0 rfl) ?_
    refine tw_get E hK hT 39 (Nat.le_of_ble_eq_true rfl) q1849 rfl (v := .ref (ta 39)) rfl dX5_takes_39 ?_
    refine lv_bipush (v := nI 8) E.1 E.2.1 dX5_takes_42 rfl ?_
    refine lv_iload_n E.1 E.2.1 dX5_takes_44 rfl (lv_at hl 1 rfl) ?_
    refine lv_imul E.1 E.2.1 dX5_takes_45 ?_
    refine lv_aload_n E.1 E.2.1 dX5_takes_46 rfl (lv_at hl 0 rfl) ?_
    refine tw_get E hK hT 38 (Nat.le_of_ble_eq_true rfl) q1848 rfl (v := .ref (ta 38)) rfl dX5_takes_47 ?_
    refine lv_iload_n E.1 E.2.1 dX5_takes_50 rfl (lv_at hl 1 rfl) ?_
    obtain ⟨hin, hw⟩ := hw
    refine tw_iald E hK hT 38 rfl hin dX5_takes_51 ?_
    refine lv_iload_n E.1 E.2.1 dX5_takes_52 rfl (lv_at hl 2 rfl) ?_
    refine tw_callSv E hK hT hS (As := [.ref (ta 39), .int ((nI 8) * i1), .int (sf z0 38 i1.toNatClampNeg), .int (i2)]) (rest := []) (met_goes l G ta (d) hw) (va_cwS 4 E.2.2.2.2 (lw_S q2320 q2321 q128 q2322) rfl rfl rfl hs_goes (rm_ok (by omega) (by decide))) rfl rfl hl.1 (Nat.le_of_ble_eq_true rfl) dX5_takes_53 (fun z2 H locs hw hT hS => ?_)
    refine lv_aload_n E.1 E.2.1 dX5_takes_56 rfl (lv_at hl 0 rfl) ?_
    refine tw_get E hK hT 38 (Nat.le_of_ble_eq_true rfl) q1848 rfl (v := .ref (ta 38)) rfl dX5_takes_57 ?_
    refine lv_iload_n E.1 E.2.1 dX5_takes_60 rfl (lv_at hl 1 rfl) ?_
    refine lv_dup2_11 E.1 E.2.1 dX5_takes_61 rfl rfl ?_
    obtain ⟨hin, hw⟩ := hw
    refine tw_iald E hK hT 38 rfl hin dX5_takes_62 ?_
    refine lv_iconst (v := nI 1) E.1 E.2.1 dX5_takes_63 rfl ?_
    refine lv_isub E.1 E.2.1 dX5_takes_64 ?_
    obtain ⟨hin, hw⟩ := hw
    refine tw_iast E hK hT hS 38 rfl hin dX5_takes_65 (fun H locs hT hS => ?_)
    obtain ⟨z3, ez3⟩ : ∃ y, y = uf z2 38 i1.toNatClampNeg ((sf z2 38 i1.toNatClampNeg) - (nI 1)) := ⟨_, rfl⟩
    rw [← ez3] at hT
    replace hw := hw z3 ez3
    exact tw_vret E hr hlocks hT hS hw dX5_takes_66
  · replace hw := hw.2 (c1)
    refine lv_aload_n E.1 E.2.1 dX5_takes_7 rfl (lv_at hl 0 rfl) ?_
    refine tw_get E hK hT 41 (Nat.le_of_ble_eq_true rfl) q1851 rfl (v := .ref (ta 41)) rfl dX5_takes_8 ?_
    refine lv_bipush (v := nI 6) E.1 E.2.1 dX5_takes_11 rfl ?_
    refine lv_iload_n E.1 E.2.1 dX5_takes_13 rfl (lv_at hl 1 rfl) ?_
    refine lv_imul E.1 E.2.1 dX5_takes_14 ?_
    refine lv_aload_n E.1 E.2.1 dX5_takes_15 rfl (lv_at hl 0 rfl) ?_
    refine tw_get E hK hT 40 (Nat.le_of_ble_eq_true rfl) q1850 rfl (v := .ref (ta 40)) rfl dX5_takes_16 ?_
    refine lv_iload_n E.1 E.2.1 dX5_takes_19 rfl (lv_at hl 1 rfl) ?_
    obtain ⟨hin, hw⟩ := hw
    refine tw_iald E hK hT 40 rfl hin dX5_takes_20 ?_
    refine lv_iload_n E.1 E.2.1 dX5_takes_21 rfl (lv_at hl 2 rfl) ?_
    refine tw_callSv E hK hT hS (As := [.ref (ta 41), .int ((nI 6) * i1), .int (sf z0 40 i1.toNatClampNeg), .int (i2)]) (rest := []) (met_goes l G ta (d) hw) (va_cwS 4 E.2.2.2.2 (lw_S q2320 q2321 q128 q2322) rfl rfl rfl hs_goes (rm_ok (by omega) (by decide))) rfl rfl hl.1 (Nat.le_of_ble_eq_true rfl) dX5_takes_22 (fun z4 H locs hw hT hS => ?_)
    refine lv_aload_n E.1 E.2.1 dX5_takes_25 rfl (lv_at hl 0 rfl) ?_
    refine tw_get E hK hT 40 (Nat.le_of_ble_eq_true rfl) q1850 rfl (v := .ref (ta 40)) rfl dX5_takes_26 ?_
    refine lv_iload_n E.1 E.2.1 dX5_takes_29 rfl (lv_at hl 1 rfl) ?_
    refine lv_dup2_11 E.1 E.2.1 dX5_takes_30 rfl rfl ?_
    obtain ⟨hin, hw⟩ := hw
    refine tw_iald E hK hT 40 rfl hin dX5_takes_31 ?_
    refine lv_iconst (v := nI 1) E.1 E.2.1 dX5_takes_32 rfl ?_
    refine lv_isub E.1 E.2.1 dX5_takes_33 ?_
    obtain ⟨hin, hw⟩ := hw
    refine tw_iast E hK hT hS 40 rfl hin dX5_takes_34 (fun H locs hT hS => ?_)
    obtain ⟨z5, ez5⟩ : ∃ y, y = uf z4 40 i1.toNatClampNeg ((sf z4 40 i1.toNatClampNeg) - (nI 1)) := ⟨_, rfl⟩
    rw [← ez5] at hT
    replace hw := hw z5 ez5
    refine lv_goto (tgt := 66) E.1 E.2.1 dX5_takes_35 (by decide) ?_
    exact tw_vret E hr hlocks hT hS hw dX5_takes_66
/-- drop(II)Z -/
def wp_drop (post : Bool → TS → Prop) (z0 : TS) (i1 : Int32) (i2 : Int32) : Prop := ∀ z1, z1 = ux z0 2 (nI 0) → wp_canGo (fun b3 z2 => (b3 = true → wp_takes (fun z5 => post true z5) z2 i1 i2) ∧ (b3 = false → post false z2)) z1 i1 i2
theorem hd_drop : yX5_drop.cls = RX5 ∧ yX5_drop.cls ≠ "java/lang/invoke/MethodHandle" ∧ yX5_drop.cls ≠ "java/lang/invoke/VarHandle" ∧ (parseMethodDescriptor yX5_drop.desc).map (fun d => d.parameters.length) = some 2 := by decide +kernel
set_option maxHeartbeats 4000000 in
theorem met_drop (l : Launch) (G : GP) (ta : Nat → Nat) (d : Nat) {post : Bool → TS → Prop} {z0 : TS} {i1 : Int32} {i2 : Int32} (hw : wp_drop post z0 i1 i2) : Met l yX5_drop (ws_ yX5_drop cX5_drop 3 (some .boolean)) (rmd (d + 3) 0 0) (tPc G ta z0 [.ref (ta 73), .int (i1), .int (i2)]) (tQz G ta post) 0 0 (TA ta) := by
  unfold wp_drop at hw
  refine tw_met (by decide) rfl (Nat.le_of_ble_eq_true rfl) ?_
  intro p e s m args below meth c ls E hr hlocks hK hT hS hl
  replace hl : lv_has ls 3 [(0, .ref (ta 73)), (1, .int (i1)), (2, .int (i2))] := hl
  refine lv_aload_n E.1 E.2.1 dX5_drop_0 rfl (lv_at hl 0 rfl) ?_
  refine lv_iconst (v := nI 0) E.1 E.2.1 dX5_drop_1 rfl ?_
  refine tw_puti E hK hT hS 2 (Nat.le_of_ble_eq_true rfl) q1812 rfl rfl rfl rfl dX5_drop_2 (fun H locs hT hS => ?_)
  obtain ⟨z1, ez1⟩ : ∃ y, y = ux z0 2 (nI 0) := ⟨_, rfl⟩
  rw [← ez1] at hT
  replace hw := hw z1 ez1
  refine lv_aload_n E.1 E.2.1 dX5_drop_5 rfl (lv_at hl 0 rfl) ?_
  refine lv_iload_n E.1 E.2.1 dX5_drop_6 rfl (lv_at hl 1 rfl) ?_
  refine lv_iload_n E.1 E.2.1 dX5_drop_7 rfl (lv_at hl 2 rfl) ?_
  refine tw_callVz E hK hT hS (As := [.int (i1), .int (i2)]) (rest := []) (met_canGo l G ta (d) hw) (cwV 2 E.2.2.2.2 (lw_V q2312 q2314 qs104 q128 q2315) rfl rfl rfl hd_canGo (rm_ok (by omega) (by decide))) rfl rfl hl.1 (Nat.le_of_ble_eq_true rfl) dX5_drop_8 (fun b3 z2 H locs hw hT hS => ?_)
  refine lv_if_ne (tgt := 16) E.1 E.2.1 dX5_drop_11 (by decide) (fun c4 => ?_) (fun c4 => ?_)
  · replace hw := hw.1 (bi_n c4)
    refine lv_aload_n E.1 E.2.1 dX5_drop_16 rfl (lv_at hl 0 rfl) ?_
    refine lv_iload_n E.1 E.2.1 dX5_drop_17 rfl (lv_at hl 1 rfl) ?_
    refine lv_iload_n E.1 E.2.1 dX5_drop_18 rfl (lv_at hl 2 rfl) ?_
    refine tw_callVv E hK hT hS (As := [.int (i1), .int (i2)]) (rest := []) (met_takes l G ta (d) hw) (cwV 2 E.2.2.2.2 (lw_V q2316 q2318 qs105 q128 q2319) rfl rfl rfl hd_takes (rm_ok (by omega) (by decide))) rfl rfl hl.1 (Nat.le_of_ble_eq_true rfl) dX5_drop_19 (fun z5 H locs hw hT hS => ?_)
    refine lv_iconst (v := nI 1) E.1 E.2.1 dX5_drop_22 rfl ?_
    exact tw_iretz (b := true) E hr hlocks hT hS rfl hw dX5_drop_23
  · replace hw := hw.2 (bi_z c4)
    refine lv_iconst (v := nI 0) E.1 E.2.1 dX5_drop_14 rfl ?_
    exact tw_iretz (b := false) E hr hlocks hT hS rfl hw dX5_drop_15
/-- alter(III)I -/
def wp_alter (post : Int32 → TS → Prop) (z0 : TS) (i1 : Int32) (i2 : Int32) (i3 : Int32) : Prop := ∀ z1, z1 = ux z0 2 (nI 0) → wp_isStay (fun b3 z2 => (b3 = false → post ((-1)) z2) ∧ (b3 = true → wp_within (fun b6 z5 => (b6 = true → ∃ J8 : TS → Prop, (∀ (z10 : TS), J8 z10  → (¬ i2 = 0 → (¬ i2 = (nI 1) → vp_in (i1) 24 ∧ ∀ x13, x13 = sf z10 37 i1.toNatClampNeg → vp_in (i1) 24 ∧ ∀ z14, z14 = uf z10 37 i1.toNatClampNeg i3 → post x13 z14) ∧ (i2 = (nI 1) → vp_in (i1) 24 ∧ ∀ x15, x15 = sf z10 36 i1.toNatClampNeg → vp_in (i1) 24 ∧ ∀ z16, z16 = uf z10 36 i1.toNatClampNeg i3 → post x15 z16)) ∧ (i2 = 0 → vp_in (i1) 24 ∧ ∀ x17, x17 = sf z10 35 i1.toNatClampNeg → vp_in (i1) 24 ∧ ∀ z18, z18 = uf z10 35 i1.toNatClampNeg i3 → wp_canGo (fun b20 z19 => (b20 = false → post x17 z19) ∧ (b20 = true → wp_takes (fun z22 => post x17 z22) z19 i1 i3)) z18 i1 i3)) ∧ ((¬ i2 = 0 → (¬ i2 = (nI 1) → wp_within (fun b26 z25 => (b26 = true → J8 z25 ) ∧ (b26 = false → post ((-1)) z25)) z5 i3 (nI 1) (nI 400)) ∧ (i2 = (nI 1) → wp_within (fun b29 z28 => (b29 = true → J8 z28 ) ∧ (b29 = false → post ((-1)) z28)) z5 i3 (nI 0) (nI 120))) ∧ (i2 = 0 → wp_within (fun b32 z31 => (b32 = true → J8 z31 ) ∧ (b32 = false → post ((-1)) z31)) z5 i3 (nI 0) (nI 999)))) ∧ (b6 = false → post ((-1)) z5)) z2 i2 (nI 0) (nI 2))) z1 i1
theorem hd_alter : yX5_alter.cls = RX5 ∧ yX5_alter.cls ≠ "java/lang/invoke/MethodHandle" ∧ yX5_alter.cls ≠ "java/lang/invoke/VarHandle" ∧ (parseMethodDescriptor yX5_alter.desc).map (fun d => d.parameters.length) = some 3 := by decide +kernel
set_option maxHeartbeats 4000000 in
theorem met_alter (l : Launch) (G : GP) (ta : Nat → Nat) (d : Nat) {post : Int32 → TS → Prop} {z0 : TS} {i1 : Int32} {i2 : Int32} {i3 : Int32} (hw : wp_alter post z0 i1 i2 i3) : Met l yX5_alter (ws_ yX5_alter cX5_alter 5 (some .int)) (rmd (d + 3) 0 0) (tPc G ta z0 [.ref (ta 73), .int (i1), .int (i2), .int (i3)]) (tQi G ta post) 0 0 (TA ta) := by
  unfold wp_alter at hw
  refine tw_met (by decide) rfl (Nat.le_of_ble_eq_true rfl) ?_
  intro p e s m args below meth c ls E hr hlocks hK hT hS hl
  replace hl : lv_has ls 5 [(0, .ref (ta 73)), (1, .int (i1)), (2, .int (i2)), (3, .int (i3))] := hl
  refine lv_aload_n E.1 E.2.1 dX5_alter_0 rfl (lv_at hl 0 rfl) ?_
  refine lv_iconst (v := nI 0) E.1 E.2.1 dX5_alter_1 rfl ?_
  refine tw_puti E hK hT hS 2 (Nat.le_of_ble_eq_true rfl) q1812 rfl rfl rfl rfl dX5_alter_2 (fun H locs hT hS => ?_)
  obtain ⟨z1, ez1⟩ : ∃ y, y = ux z0 2 (nI 0) := ⟨_, rfl⟩
  rw [← ez1] at hT
  replace hw := hw z1 ez1
  refine lv_aload_n E.1 E.2.1 dX5_alter_5 rfl (lv_at hl 0 rfl) ?_
  refine lv_iload_n E.1 E.2.1 dX5_alter_6 rfl (lv_at hl 1 rfl) ?_
  refine tw_callVz E hK hT hS (As := [.int (i1)]) (rest := []) (met_isStay l G ta (d + 1) hw) (cwV 1 E.2.2.2.2 (lw_V q2294 q2296 qs102 q128 q2297) rfl rfl rfl hd_isStay (rm_ok (by omega) (by decide))) rfl rfl hl.1 (Nat.le_of_ble_eq_true rfl) dX5_alter_7 (fun b3 z2 H locs hw hT hS => ?_)
  refine lv_if_eq (tgt := 22) E.1 E.2.1 dX5_alter_10 (by decide) (fun c4 => ?_) (fun c4 => ?_)
  · replace hw := hw.1 (bi_z c4)
    refine lv_iconst (v := (-1)) E.1 E.2.1 dX5_alter_22 rfl ?_
    exact tw_ireti E hr hlocks hT hS hw dX5_alter_23
  · replace hw := hw.2 (bi_n c4)
    refine lv_iload_n E.1 E.2.1 dX5_alter_13 rfl (lv_at hl 2 rfl) ?_
    refine lv_iconst (v := nI 0) E.1 E.2.1 dX5_alter_14 rfl ?_
    refine lv_iconst (v := nI 2) E.1 E.2.1 dX5_alter_15 rfl ?_
    refine tw_callSz E hK hT hS (As := [.int (i2), .int (nI 0), .int (nI 2)]) (rest := []) (met_within l G ta (d + 2) hw) (va_cwS 3 E.2.2.2.2 (lw_S q2048 q2049 q128 q2050) rfl rfl rfl hs_within (rm_ok (by omega) (by decide))) rfl rfl hl.1 (Nat.le_of_ble_eq_true rfl) dX5_alter_16 (fun b6 z5 H locs hw hT hS => ?_)
    refine lv_if_ne (tgt := 24) E.1 E.2.1 dX5_alter_19 (by decide) (fun c7 => ?_) (fun c7 => ?_)
    · replace hw := hw.1 (bi_n c7)
      obtain ⟨J8, hj34, hw⟩ := hw
      have jh9 : ∀ (z10 : TS), J8 z10  → ∀ (H : Heap) (locs : List Loc) (ls : Array Slot), TW G ta z10 H → va_S (TA ta) s.heap H locs → lv_has ls 5 [(0, .ref (ta 73)), (1, .int (i1)), (2, .int (i2)), (3, .int (i3))] → W p l e (rmd (d + 3) 0 0) s m args below meth c H locs 0 0 (MQ below (tQi G ta post) args s 0 0 (TA ta)) (F0 m 73 ls []) := by
        intro z10 hw H locs ls hT hS hl
        replace hw := hj34 z10 hw
        refine lv_iload_n E.1 E.2.1 dX5_alter_73 rfl (lv_at hl 2 rfl) ?_
        refine lv_if_ne (tgt := 110) E.1 E.2.1 dX5_alter_74 (by decide) (fun c11 => ?_) (fun c11 => ?_)
        · replace hw := hw.1 (c11)
          refine lv_iload_n E.1 E.2.1 dX5_alter_110 rfl (lv_at hl 2 rfl) ?_
          refine lv_iconst (v := nI 1) E.1 E.2.1 dX5_alter_111 rfl ?_
          refine lv_icmp_ne (tgt := 133) E.1 E.2.1 dX5_alter_112 (by decide) (fun c12 => ?_) (fun c12 => ?_)
          · replace hw := hw.1 (c12)
            refine lv_aload_n E.1 E.2.1 dX5_alter_133 rfl (lv_at hl 0 rfl) ?_
            refine tw_get E hK hT 37 (Nat.le_of_ble_eq_true rfl) q1847 rfl (v := .ref (ta 37)) rfl dX5_alter_134 ?_
            refine lv_iload_n E.1 E.2.1 dX5_alter_137 rfl (lv_at hl 1 rfl) ?_
            obtain ⟨hin, hw⟩ := hw
            refine tw_iald E hK hT 37 rfl hin dX5_alter_138 ?_
            refine lv_topi (fun x13 ex13 => ?_)
            replace hw := hw x13 ex13
            refine lv_istore (lv' := [(4, .int (x13)), (0, .ref (ta 73)), (1, .int (i1)), (2, .int (i2)), (3, .int (i3))]) E.1 E.2.1 dX5_alter_139 hl (Nat.le_of_ble_eq_true rfl) rfl (fun ls hl => ?_)
            refine lv_aload_n E.1 E.2.1 dX5_alter_141 rfl (lv_at hl 1 rfl) ?_
            refine tw_get E hK hT 37 (Nat.le_of_ble_eq_true rfl) q1847 rfl (v := .ref (ta 37)) rfl dX5_alter_142 ?_
            refine lv_iload_n E.1 E.2.1 dX5_alter_145 rfl (lv_at hl 2 rfl) ?_
            refine lv_iload_n E.1 E.2.1 dX5_alter_146 rfl (lv_at hl 4 rfl) ?_
            obtain ⟨hin, hw⟩ := hw
            refine tw_iast E hK hT hS 37 rfl hin dX5_alter_147 (fun H locs hT hS => ?_)
            obtain ⟨z14, ez14⟩ : ∃ y, y = uf z10 37 i1.toNatClampNeg i3 := ⟨_, rfl⟩
            rw [← ez14] at hT
            replace hw := hw z14 ez14
            refine lv_iload E.1 E.2.1 dX5_alter_148 (lv_at hl 0 rfl) ?_
            exact tw_ireti E hr hlocks hT hS hw dX5_alter_150
          · replace hw := hw.2 (c12)
            refine lv_aload_n E.1 E.2.1 dX5_alter_115 rfl (lv_at hl 0 rfl) ?_
            refine tw_get E hK hT 36 (Nat.le_of_ble_eq_true rfl) q1846 rfl (v := .ref (ta 36)) rfl dX5_alter_116 ?_
            refine lv_iload_n E.1 E.2.1 dX5_alter_119 rfl (lv_at hl 1 rfl) ?_
            obtain ⟨hin, hw⟩ := hw
            refine tw_iald E hK hT 36 rfl hin dX5_alter_120 ?_
            refine lv_topi (fun x15 ex15 => ?_)
            replace hw := hw x15 ex15
            refine lv_istore (lv' := [(4, .int (x15)), (0, .ref (ta 73)), (1, .int (i1)), (2, .int (i2)), (3, .int (i3))]) E.1 E.2.1 dX5_alter_121 hl (Nat.le_of_ble_eq_true rfl) rfl (fun ls hl => ?_)
            refine lv_aload_n E.1 E.2.1 dX5_alter_123 rfl (lv_at hl 1 rfl) ?_
            refine tw_get E hK hT 36 (Nat.le_of_ble_eq_true rfl) q1846 rfl (v := .ref (ta 36)) rfl dX5_alter_124 ?_
            refine lv_iload_n E.1 E.2.1 dX5_alter_127 rfl (lv_at hl 2 rfl) ?_
            refine lv_iload_n E.1 E.2.1 dX5_alter_128 rfl (lv_at hl 4 rfl) ?_
            obtain ⟨hin, hw⟩ := hw
            refine tw_iast E hK hT hS 36 rfl hin dX5_alter_129 (fun H locs hT hS => ?_)
            obtain ⟨z16, ez16⟩ : ∃ y, y = uf z10 36 i1.toNatClampNeg i3 := ⟨_, rfl⟩
            rw [← ez16] at hT
            replace hw := hw z16 ez16
            refine lv_goto (tgt := 148) E.1 E.2.1 dX5_alter_130 (by decide) ?_
            refine lv_iload E.1 E.2.1 dX5_alter_148 (lv_at hl 0 rfl) ?_
            exact tw_ireti E hr hlocks hT hS hw dX5_alter_150
        · replace hw := hw.2 (c11)
          refine lv_aload_n E.1 E.2.1 dX5_alter_77 rfl (lv_at hl 0 rfl) ?_
          refine tw_get E hK hT 35 (Nat.le_of_ble_eq_true rfl) q1845 rfl (v := .ref (ta 35)) rfl dX5_alter_78 ?_
          refine lv_iload_n E.1 E.2.1 dX5_alter_81 rfl (lv_at hl 1 rfl) ?_
          obtain ⟨hin, hw⟩ := hw
          refine tw_iald E hK hT 35 rfl hin dX5_alter_82 ?_
          refine lv_topi (fun x17 ex17 => ?_)
          replace hw := hw x17 ex17
          refine lv_istore (lv' := [(4, .int (x17)), (0, .ref (ta 73)), (1, .int (i1)), (2, .int (i2)), (3, .int (i3))]) E.1 E.2.1 dX5_alter_83 hl (Nat.le_of_ble_eq_true rfl) rfl (fun ls hl => ?_)
          refine lv_aload_n E.1 E.2.1 dX5_alter_85 rfl (lv_at hl 1 rfl) ?_
          refine tw_get E hK hT 35 (Nat.le_of_ble_eq_true rfl) q1845 rfl (v := .ref (ta 35)) rfl dX5_alter_86 ?_
          refine lv_iload_n E.1 E.2.1 dX5_alter_89 rfl (lv_at hl 2 rfl) ?_
          refine lv_iload_n E.1 E.2.1 dX5_alter_90 rfl (lv_at hl 4 rfl) ?_
          obtain ⟨hin, hw⟩ := hw
          refine tw_iast E hK hT hS 35 rfl hin dX5_alter_91 (fun H locs hT hS => ?_)
          obtain ⟨z18, ez18⟩ : ∃ y, y = uf z10 35 i1.toNatClampNeg i3 := ⟨_, rfl⟩
          rw [← ez18] at hT
          replace hw := hw z18 ez18
          refine lv_aload_n E.1 E.2.1 dX5_alter_92 rfl (lv_at hl 1 rfl) ?_
          refine lv_iload_n E.1 E.2.1 dX5_alter_93 rfl (lv_at hl 2 rfl) ?_
          refine lv_iload_n E.1 E.2.1 dX5_alter_94 rfl (lv_at hl 4 rfl) ?_
          refine tw_callVz E hK hT hS (As := [.int (i1), .int (i3)]) (rest := []) (met_canGo l G ta (d) hw) (cwV 2 E.2.2.2.2 (lw_V q2312 q2314 qs104 q128 q2315) rfl rfl rfl hd_canGo (rm_ok (by omega) (by decide))) rfl rfl hl.1 (Nat.le_of_ble_eq_true rfl) dX5_alter_95 (fun b20 z19 H locs hw hT hS => ?_)
          refine lv_if_eq (tgt := 148) E.1 E.2.1 dX5_alter_98 (by decide) (fun c21 => ?_) (fun c21 => ?_)
          · replace hw := hw.1 (bi_z c21)
            refine lv_iload E.1 E.2.1 dX5_alter_148 (lv_at hl 0 rfl) ?_
            exact tw_ireti E hr hlocks hT hS hw dX5_alter_150
          · replace hw := hw.2 (bi_n c21)
            refine lv_aload_n E.1 E.2.1 dX5_alter_101 rfl (lv_at hl 1 rfl) ?_
            refine lv_iload_n E.1 E.2.1 dX5_alter_102 rfl (lv_at hl 2 rfl) ?_
            refine lv_iload_n E.1 E.2.1 dX5_alter_103 rfl (lv_at hl 4 rfl) ?_
            refine tw_callVv E hK hT hS (As := [.int (i1), .int (i3)]) (rest := []) (met_takes l G ta (d) hw) (cwV 2 E.2.2.2.2 (lw_V q2316 q2318 qs105 q128 q2319) rfl rfl rfl hd_takes (rm_ok (by omega) (by decide))) rfl rfl hl.1 (Nat.le_of_ble_eq_true rfl) dX5_alter_104 (fun z22 H locs hw hT hS => ?_)
            refine lv_goto (tgt := 148) E.1 E.2.1 dX5_alter_107 (by decide) ?_
            refine lv_iload E.1 E.2.1 dX5_alter_148 (lv_at hl 0 rfl) ?_
            exact tw_ireti E hr hlocks hT hS hw dX5_alter_150
      refine lv_iload_n E.1 E.2.1 dX5_alter_24 rfl (lv_at hl 2 rfl) ?_
      refine lv_if_ne (tgt := 42) E.1 E.2.1 dX5_alter_25 (by decide) (fun c23 => ?_) (fun c23 => ?_)
      · replace hw := hw.1 (c23)
        refine lv_iload_n E.1 E.2.1 dX5_alter_42 rfl (lv_at hl 2 rfl) ?_
        refine lv_iconst (v := nI 1) E.1 E.2.1 dX5_alter_43 rfl ?_
        refine lv_icmp_ne (tgt := 60) E.1 E.2.1 dX5_alter_44 (by decide) (fun c24 => ?_) (fun c24 => ?_)
        · replace hw := hw.1 (c24)
          refine lv_iload_n E.1 E.2.1 dX5_alter_60 rfl (lv_at hl 3 rfl) ?_
          refine lv_iconst (v := nI 1) E.1 E.2.1 dX5_alter_61 rfl ?_
          refine lv_sipush (v := nI 400) E.1 E.2.1 dX5_alter_62 rfl ?_
          refine tw_callSz E hK hT hS (As := [.int (i3), .int (nI 1), .int (nI 400)]) (rest := []) (met_within l G ta (d + 2) hw) (va_cwS 3 E.2.2.2.2 (lw_S q2048 q2049 q128 q2050) rfl rfl rfl hs_within (rm_ok (by omega) (by decide))) rfl rfl hl.1 (Nat.le_of_ble_eq_true rfl) dX5_alter_65 (fun b26 z25 H locs hw hT hS => ?_)
          refine lv_if_ne (tgt := 73) E.1 E.2.1 dX5_alter_68 (by decide) (fun c27 => ?_) (fun c27 => ?_)
          · replace hw := hw.1 (bi_n c27)
            exact jh9 _ hw _ _ _ hT hS (lv_sub hl [0, 1, 2, 3] rfl)
          · replace hw := hw.2 (bi_z c27)
            refine lv_iconst (v := (-1)) E.1 E.2.1 dX5_alter_71 rfl ?_
            exact tw_ireti E hr hlocks hT hS hw dX5_alter_72
        · replace hw := hw.2 (c24)
          refine lv_iload_n E.1 E.2.1 dX5_alter_47 rfl (lv_at hl 3 rfl) ?_
          refine lv_iconst (v := nI 0) E.1 E.2.1 dX5_alter_48 rfl ?_
          refine lv_bipush (v := nI 120) E.1 E.2.1 dX5_alter_49 rfl ?_
          refine tw_callSz E hK hT hS (As := [.int (i3), .int (nI 0), .int (nI 120)]) (rest := []) (met_within l G ta (d + 2) hw) (va_cwS 3 E.2.2.2.2 (lw_S q2048 q2049 q128 q2050) rfl rfl rfl hs_within (rm_ok (by omega) (by decide))) rfl rfl hl.1 (Nat.le_of_ble_eq_true rfl) dX5_alter_51 (fun b29 z28 H locs hw hT hS => ?_)
          refine lv_if_ne (tgt := 73) E.1 E.2.1 dX5_alter_54 (by decide) (fun c30 => ?_) (fun c30 => ?_)
          · replace hw := hw.1 (bi_n c30)
            exact jh9 _ hw _ _ _ hT hS (lv_sub hl [0, 1, 2, 3] rfl)
          · replace hw := hw.2 (bi_z c30)
            refine lv_goto (tgt := 71) E.1 E.2.1 dX5_alter_57 (by decide) ?_
            refine lv_iconst (v := (-1)) E.1 E.2.1 dX5_alter_71 rfl ?_
            exact tw_ireti E hr hlocks hT hS hw dX5_alter_72
      · replace hw := hw.2 (c23)
        refine lv_iload_n E.1 E.2.1 dX5_alter_28 rfl (lv_at hl 3 rfl) ?_
        refine lv_iconst (v := nI 0) E.1 E.2.1 dX5_alter_29 rfl ?_
        refine lv_sipush (v := nI 999) E.1 E.2.1 dX5_alter_30 rfl ?_
        refine tw_callSz E hK hT hS (As := [.int (i3), .int (nI 0), .int (nI 999)]) (rest := []) (met_within l G ta (d + 2) hw) (va_cwS 3 E.2.2.2.2 (lw_S q2048 q2049 q128 q2050) rfl rfl rfl hs_within (rm_ok (by omega) (by decide))) rfl rfl hl.1 (Nat.le_of_ble_eq_true rfl) dX5_alter_33 (fun b32 z31 H locs hw hT hS => ?_)
        refine lv_if_ne (tgt := 73) E.1 E.2.1 dX5_alter_36 (by decide) (fun c33 => ?_) (fun c33 => ?_)
        · replace hw := hw.1 (bi_n c33)
          exact jh9 _ hw _ _ _ hT hS (lv_sub hl [0, 1, 2, 3] rfl)
        · replace hw := hw.2 (bi_z c33)
          refine lv_goto (tgt := 71) E.1 E.2.1 dX5_alter_39 (by decide) ?_
          refine lv_iconst (v := (-1)) E.1 E.2.1 dX5_alter_71 rfl ?_
          exact tw_ireti E hr hlocks hT hS hw dX5_alter_72
    · replace hw := hw.2 (bi_z c7)
      refine lv_iconst (v := (-1)) E.1 E.2.1 dX5_alter_22 rfl ?_
      exact tw_ireti E hr hlocks hT hS hw dX5_alter_23
/-- clear()I -/
def wp_clear (post : Int32 → TS → Prop) (z0 : TS) : Prop := ∀ z1, z1 = ux z0 2 (nI 0) → ∀ x2, x2 = sx z1 34 → ∀ z3, z3 = ux z1 34 (nI 0) → post x2 z3
theorem hd_clear : yX5_clear.cls = RX5 ∧ yX5_clear.cls ≠ "java/lang/invoke/MethodHandle" ∧ yX5_clear.cls ≠ "java/lang/invoke/VarHandle" ∧ (parseMethodDescriptor yX5_clear.desc).map (fun d => d.parameters.length) = some 0 := by decide +kernel
set_option maxHeartbeats 4000000 in
theorem met_clear (l : Launch) (G : GP) (ta : Nat → Nat) (d : Nat) {post : Int32 → TS → Prop} {z0 : TS} (hw : wp_clear post z0) : Met l yX5_clear (ws_ yX5_clear cX5_clear 2 (some .int)) (rmd (d + 0) 0 0) (tPc G ta z0 [.ref (ta 73)]) (tQi G ta post) 0 0 (TA ta) := by
  unfold wp_clear at hw
  refine tw_met (by decide) rfl (Nat.le_of_ble_eq_true rfl) ?_
  intro p e s m args below meth c ls E hr hlocks hK hT hS hl
  replace hl : lv_has ls 2 [(0, .ref (ta 73))] := hl
  refine lv_aload_n E.1 E.2.1 dX5_clear_0 rfl (lv_at hl 0 rfl) ?_
  refine lv_iconst (v := nI 0) E.1 E.2.1 dX5_clear_1 rfl ?_
  refine tw_puti E hK hT hS 2 (Nat.le_of_ble_eq_true rfl) q1812 rfl rfl rfl rfl dX5_clear_2 (fun H locs hT hS => ?_)
  obtain ⟨z1, ez1⟩ : ∃ y, y = ux z0 2 (nI 0) := ⟨_, rfl⟩
  rw [← ez1] at hT
  replace hw := hw z1 ez1
  refine lv_aload_n E.1 E.2.1 dX5_clear_5 rfl (lv_at hl 0 rfl) ?_
  refine tw_get E hK hT 34 (Nat.le_of_ble_eq_true rfl) q1844 rfl (v := .int (sx z1 34)) rfl dX5_clear_6 ?_
  refine lv_topi (fun x2 ex2 => ?_)
  replace hw := hw x2 ex2
  refine lv_istore_n (lv' := [(1, .int (x2)), (0, .ref (ta 73))]) E.1 E.2.1 dX5_clear_9 rfl hl (Nat.le_of_ble_eq_true rfl) rfl (fun ls hl => ?_)
  refine lv_aload_n E.1 E.2.1 dX5_clear_10 rfl (lv_at hl 1 rfl) ?_
  refine lv_iconst (v := nI 0) E.1 E.2.1 dX5_clear_11 rfl ?_
  refine tw_puti E hK hT hS 34 (Nat.le_of_ble_eq_true rfl) q1844 rfl rfl rfl rfl dX5_clear_12 (fun H locs hT hS => ?_)
  obtain ⟨z3, ez3⟩ : ∃ y, y = ux z1 34 (nI 0) := ⟨_, rfl⟩
  rw [← ez3] at hT
  replace hw := hw z3 ez3
  refine lv_iload_n E.1 E.2.1 dX5_clear_15 rfl (lv_at hl 0 rfl) ?_
  exact tw_ireti E hr hlocks hT hS hw dX5_clear_16
/-- chapterFor(II)I -/
def wp_chapterFor (post : Int32 → TS → Prop) (z0 : TS) (i1 : Int32) (i2 : Int32) : Prop := ∃ I1 : Nat → TS → Int32 → Prop, (∃ n7, I1 n7 z0 (nI 0)) ∧ ∀ (n2 : Nat) (z3 : TS) (x6 : Int32), I1 n2 z3 x6 → wp_chapters (fun r9 z8 => (r9 ≤ x6 → post ((-1)) z8) ∧ (¬ r9 ≤ x6 → ∀ x11, x11 = ((nI 6) * i1) + x6 → ∃ I12 : Nat → TS → Int32 → Prop, (∃ n18, I12 n18 z8 (nI 0)) ∧ ∀ (n13 : Nat) (z14 : TS) (x17 : Int32), I12 n13 z14 x17 → vp_in (x11) 18 ∧ ((sf z14 5 x11.toNatClampNeg) ≤ x17 → ∃ n20, n20 < n2 ∧ I1 n20 z14 (x6 + nI 1)) ∧ (¬ (sf z14 5 x11.toNatClampNeg) ≤ x17 → vp_in (i2) 24 ∧ vp_in (((nI 3) * x11) + x17) 54 ∧ vp_in (((nI 3) * x11) + x17) 54 ∧ wp_within (fun b22 z21 => (b22 = false → ∃ n24, n24 < n13 ∧ I12 n24 z21 (x17 + nI 1)) ∧ (b22 = true → post x6 z21)) z14 (sf z14 35 i2.toNatClampNeg) (sf z14 6 (((nI 3) * x11) + x17).toNatClampNeg) (sf z14 7 (((nI 3) * x11) + x17).toNatClampNeg)))) z3 i1
theorem hd_chapterFor : yX5_chapterFor.cls = RX5 ∧ yX5_chapterFor.cls ≠ "java/lang/invoke/MethodHandle" ∧ yX5_chapterFor.cls ≠ "java/lang/invoke/VarHandle" ∧ (parseMethodDescriptor yX5_chapterFor.desc).map (fun d => d.parameters.length) = some 2 := by decide +kernel
set_option maxHeartbeats 4000000 in
theorem met_chapterFor (l : Launch) (G : GP) (ta : Nat → Nat) (d : Nat) {post : Int32 → TS → Prop} {z0 : TS} {i1 : Int32} {i2 : Int32} (hw : wp_chapterFor post z0 i1 i2) : Met l yX5_chapterFor (ws_ yX5_chapterFor cX5_chapterFor 6 (some .int)) (rmd (d + 1) 0 0) (tPc G ta z0 [.ref (ta 73), .int (i1), .int (i2)]) (tQi G ta post) 0 0 (TA ta) := by
  unfold wp_chapterFor at hw
  refine tw_met (by decide) rfl (Nat.le_of_ble_eq_true rfl) ?_
  intro p e s m args below meth c ls E hr hlocks hK hT hS hl
  replace hl : lv_has ls 6 [(0, .ref (ta 73)), (1, .int (i1)), (2, .int (i2))] := hl
  refine lv_iconst (v := nI 0) E.1 E.2.1 dX5_chapterFor_0 rfl ?_
  refine lv_istore_n (lv' := [(3, .int (nI 0)), (0, .ref (ta 73)), (1, .int (i1)), (2, .int (i2))]) E.1 E.2.1 dX5_chapterFor_1 rfl hl (Nat.le_of_ble_eq_true rfl) rfl (fun ls hl => ?_)
  obtain ⟨I1, ⟨n7, hi28⟩, hb27⟩ := hw
  have L5 : ∀ (n2 : Nat) (z3 : TS) (x6 : Int32), I1 n2 z3 x6 → ∀ (H : Heap) (locs : List Loc) (ls : Array Slot), TW G ta z3 H → va_S (TA ta) s.heap H locs → lv_has ls 6 [(0, .ref (ta 73)), (1, .int (i1)), (2, .int (i2)), (3, .int (x6))] → W p l e (rmd (d + 1) 0 0) s m args below meth c H locs 0 0 (MQ below (tQi G ta post) args s 0 0 (TA ta)) (F0 m 2 ls []) := by
    intro n2
    induction n2 using Nat.strongRecOn with
    | _ n2 ih4 =>
      intro z3 x6 hw H locs ls hT hS hl
      replace hw := hb27 n2 z3 x6 hw
      refine lv_iload_n E.1 E.2.1 dX5_chapterFor_2 rfl (lv_at hl 3 rfl) ?_
      refine lv_aload_n E.1 E.2.1 dX5_chapterFor_3 rfl (lv_at hl 0 rfl) ?_
      refine lv_iload_n E.1 E.2.1 dX5_chapterFor_4 rfl (lv_at hl 1 rfl) ?_
      refine tw_callVi E hK hT hS (As := [.int (i1)]) (rest := [.int (x6)]) (met_chapters l G ta (d) hw) (cwV 1 E.2.2.2.2 (lw_V q2109 q2111 qs65 q128 q2112) rfl rfl rfl hd_chapters (rm_ok (by omega) (by decide))) rfl rfl hl.1 (Nat.le_of_ble_eq_true rfl) dX5_chapterFor_5 (fun r9 z8 H locs hw hT hS => ?_)
      refine lv_icmp_ge (tgt := 84) E.1 E.2.1 dX5_chapterFor_8 (by decide) (fun c10 => ?_) (fun c10 => ?_)
      · replace hw := hw.1 (c10)
        refine lv_iconst (v := (-1)) E.1 E.2.1 dX5_chapterFor_84 rfl ?_
        exact tw_ireti E hr hlocks hT hS hw dX5_chapterFor_85
      · replace hw := hw.2 (c10)
        refine lv_bipush (v := nI 6) E.1 E.2.1 dX5_chapterFor_11 rfl ?_
        refine lv_iload_n E.1 E.2.1 dX5_chapterFor_13 rfl (lv_at hl 1 rfl) ?_
        refine lv_imul E.1 E.2.1 dX5_chapterFor_14 ?_
        refine lv_iload_n E.1 E.2.1 dX5_chapterFor_15 rfl (lv_at hl 3 rfl) ?_
        refine lv_iadd E.1 E.2.1 dX5_chapterFor_16 ?_
        refine lv_topi (fun x11 ex11 => ?_)
        replace hw := hw x11 ex11
        refine lv_istore (lv' := [(4, .int (x11)), (0, .ref (ta 73)), (1, .int (i1)), (2, .int (i2)), (3, .int (x6))]) E.1 E.2.1 dX5_chapterFor_17 hl (Nat.le_of_ble_eq_true rfl) rfl (fun ls hl => ?_)
        refine lv_iconst (v := nI 0) E.1 E.2.1 dX5_chapterFor_19 rfl ?_
        refine lv_istore (lv' := [(5, .int (nI 0)), (4, .int (x11)), (0, .ref (ta 73)), (1, .int (i1)), (2, .int (i2)), (3, .int (x6))]) E.1 E.2.1 dX5_chapterFor_20 hl (Nat.le_of_ble_eq_true rfl) rfl (fun ls hl => ?_)
        obtain ⟨I12, ⟨n18, hi26⟩, hb25⟩ := hw
        have L16 : ∀ (n13 : Nat) (z14 : TS) (x17 : Int32), I12 n13 z14 x17 → ∀ (H : Heap) (locs : List Loc) (ls : Array Slot), TW G ta z14 H → va_S (TA ta) s.heap H locs → lv_has ls 6 [(0, .ref (ta 73)), (1, .int (i1)), (2, .int (i2)), (3, .int (x6)), (4, .int (x11)), (5, .int (x17))] → W p l e (rmd (d + 1) 0 0) s m args below meth c H locs 0 0 (MQ below (tQi G ta post) args s 0 0 (TA ta)) (F0 m 22 ls []) := by
          intro n13
          induction n13 using Nat.strongRecOn with
          | _ n13 ih15 =>
            intro z14 x17 hw H locs ls hT hS hl
            replace hw := hb25 n13 z14 x17 hw
            refine lv_iload E.1 E.2.1 dX5_chapterFor_22 (lv_at hl 5 rfl) ?_
            refine lv_aload_n E.1 E.2.1 dX5_chapterFor_24 rfl (lv_at hl 0 rfl) ?_
            refine tw_get E hK hT 5 (Nat.le_of_ble_eq_true rfl) q1815 rfl (v := .ref (ta 5)) rfl dX5_chapterFor_25 ?_
            refine lv_iload E.1 E.2.1 dX5_chapterFor_28 (lv_at hl 4 rfl) ?_
            obtain ⟨hin, hw⟩ := hw
            refine tw_iald E hK hT 5 rfl hin dX5_chapterFor_30 ?_
            refine lv_icmp_ge (tgt := 78) E.1 E.2.1 dX5_chapterFor_31 (by decide) (fun c19 => ?_) (fun c19 => ?_)
            · replace hw := hw.1 (c19)
              refine lv_iinc (k := 3) (v := x6 + nI 1) (lv' := [(3, .int (x6 + nI 1)), (0, .ref (ta 73)), (1, .int (i1)), (2, .int (i2)), (4, .int (x11)), (5, .int (x17))]) E.1 E.2.1 dX5_chapterFor_78 hl rfl rfl (Nat.le_of_ble_eq_true rfl) rfl (fun ls hl => ?_)
              refine lv_goto (tgt := 2) E.1 E.2.1 dX5_chapterFor_81 (by decide) ?_
              obtain ⟨n20, hnn20, hin20⟩ := hw
              exact ih4 n20 hnn20 _ _ hin20 _ _ _ hT hS (lv_sub hl [1, 2, 3, 0] rfl)
            · replace hw := hw.2 (c19)
              refine lv_aload_n E.1 E.2.1 dX5_chapterFor_34 rfl (lv_at hl 0 rfl) ?_
              refine tw_get E hK hT 35 (Nat.le_of_ble_eq_true rfl) q1845 rfl (v := .ref (ta 35)) rfl dX5_chapterFor_35 ?_
              refine lv_iload_n E.1 E.2.1 dX5_chapterFor_38 rfl (lv_at hl 2 rfl) ?_
              obtain ⟨hin, hw⟩ := hw
              refine tw_iald E hK hT 35 rfl hin dX5_chapterFor_39 ?_
              refine lv_aload_n E.1 E.2.1 dX5_chapterFor_40 rfl (lv_at hl 0 rfl) ?_
              refine tw_get E hK hT 6 (Nat.le_of_ble_eq_true rfl) q1816 rfl (v := .ref (ta 6)) rfl dX5_chapterFor_41 ?_
              refine lv_iconst (v := nI 3) E.1 E.2.1 dX5_chapterFor_44 rfl ?_
              refine lv_iload E.1 E.2.1 dX5_chapterFor_45 (lv_at hl 4 rfl) ?_
              refine lv_imul E.1 E.2.1 dX5_chapterFor_47 ?_
              refine lv_iload E.1 E.2.1 dX5_chapterFor_48 (lv_at hl 5 rfl) ?_
              refine lv_iadd E.1 E.2.1 dX5_chapterFor_50 ?_
              obtain ⟨hin, hw⟩ := hw
              refine tw_iald E hK hT 6 rfl hin dX5_chapterFor_51 ?_
              refine lv_aload_n E.1 E.2.1 dX5_chapterFor_52 rfl (lv_at hl 0 rfl) ?_
              refine tw_get E hK hT 7 (Nat.le_of_ble_eq_true rfl) q1817 rfl (v := .ref (ta 7)) rfl dX5_chapterFor_53 ?_
              refine lv_iconst (v := nI 3) E.1 E.2.1 dX5_chapterFor_56 rfl ?_
              refine lv_iload E.1 E.2.1 dX5_chapterFor_57 (lv_at hl 4 rfl) ?_
              refine lv_imul E.1 E.2.1 dX5_chapterFor_59 ?_
              refine lv_iload E.1 E.2.1 dX5_chapterFor_60 (lv_at hl 5 rfl) ?_
              refine lv_iadd E.1 E.2.1 dX5_chapterFor_62 ?_
              obtain ⟨hin, hw⟩ := hw
              refine tw_iald E hK hT 7 rfl hin dX5_chapterFor_63 ?_
              refine tw_callSz E hK hT hS (As := [.int (sf z14 35 i2.toNatClampNeg), .int (sf z14 6 (((nI 3) * x11) + x17).toNatClampNeg), .int (sf z14 7 (((nI 3) * x11) + x17).toNatClampNeg)]) (rest := []) (met_within l G ta (d) hw) (va_cwS 3 E.2.2.2.2 (lw_S q2048 q2049 q128 q2050) rfl rfl rfl hs_within (rm_ok (by omega) (by decide))) rfl rfl hl.1 (Nat.le_of_ble_eq_true rfl) dX5_chapterFor_64 (fun b22 z21 H locs hw hT hS => ?_)
              refine lv_if_eq (tgt := 72) E.1 E.2.1 dX5_chapterFor_67 (by decide) (fun c23 => ?_) (fun c23 => ?_)
              · replace hw := hw.1 (bi_z c23)
                refine lv_iinc (k := 5) (v := x17 + nI 1) (lv' := [(5, .int (x17 + nI 1)), (0, .ref (ta 73)), (1, .int (i1)), (2, .int (i2)), (3, .int (x6)), (4, .int (x11))]) E.1 E.2.1 dX5_chapterFor_72 hl rfl rfl (Nat.le_of_ble_eq_true rfl) rfl (fun ls hl => ?_)
                refine lv_goto (tgt := 22) E.1 E.2.1 dX5_chapterFor_75 (by decide) ?_
                obtain ⟨n24, hnn24, hin24⟩ := hw
                exact ih15 n24 hnn24 _ _ hin24 _ _ _ hT hS (lv_sub hl [1, 2, 3, 4, 5, 0] rfl)
              · replace hw := hw.2 (bi_n c23)
                refine lv_iload_n E.1 E.2.1 dX5_chapterFor_70 rfl (lv_at hl 3 rfl) ?_
                exact tw_ireti E hr hlocks hT hS hw dX5_chapterFor_71
        exact L16 n18 _ _ hi26 _ _ _ hT hS (lv_sub hl [2, 3, 4, 5, 1, 0] rfl)
  exact L5 n7 _ _ hi28 _ _ _ hT hS (lv_sub hl [1, 2, 3, 0] rfl)
/-- isSo(III)Z -/
def wb_isSo (rc : (Bool → TS → Prop) → TS → Int32 → Int32 → Int32 → Prop) (post : Bool → TS → Prop) (z0 : TS) (i1 : Int32) (i2 : Int32) (i3 : Int32) : Prop := ∀ x1, x1 = ((nI 400) * i1) + i3 → ∃ I2 : Nat → TS → Int32 → Prop, (∃ n8, I2 n8 z0 x1) ∧ ∀ (n3 : Nat) (z4 : TS) (x7 : Int32), I2 n3 z4 x7 → vp_in (x7) 1200 ∧ (¬ (sf z4 25 x7.toNatClampNeg) = 0 → ∃ I10 : Nat → TS → Int32 → Prop, (∃ n16, I10 n16 z4 x7) ∧ ∀ (n11 : Nat) (z12 : TS) (x15 : Int32), I10 n11 z12 x15 → vp_in (x15) 1200 ∧ (¬ (sf z12 25 x15.toNatClampNeg) = (nI 1) → vp_in (x15) 1200 ∧ ∀ x18, x18 = sf z12 26 x15.toNatClampNeg → vp_in (x15) 1200 ∧ ∀ x19, x19 = sf z12 27 x15.toNatClampNeg → vp_in (x15) 1200 ∧ ((sf z12 25 x15.toNatClampNeg) = nI 0 → rc (fun b22 z21 => post b22 z21) z12 i1 i2 (x15 - ((nI 400) * i1))) ∧ (¬ (sf z12 25 x15.toNatClampNeg) = nI 0 → ((sf z12 25 x15.toNatClampNeg) = nI 1 → wp_compares (fun b25 z24 => post b25 z24) z12 (sx z12 62) x18 x19) ∧ (¬ (sf z12 25 x15.toNatClampNeg) = nI 1 → ((sf z12 25 x15.toNatClampNeg) = nI 2 → rc (fun b28 z27 => (b28 = true → post false z27) ∧ (b28 = false → post true z27)) z12 i1 i2 x18) ∧ (¬ (sf z12 25 x15.toNatClampNeg) = nI 2 → ((sf z12 25 x15.toNatClampNeg) = nI 3 → vp_in (i2) 24 ∧ wp_within (fun b32 z31 => (b32 = false → ∃ I34 : Nat → TS → Int32 → Prop, (∃ n40, I34 n40 z31 (nI 0)) ∧ ∀ (n35 : Nat) (z36 : TS) (x39 : Int32), I34 n35 z36 x39 → vp_in (i2) 24 ∧ ((sf z36 38 i2.toNatClampNeg) ≤ x39 → post false z36) ∧ (¬ (sf z36 38 i2.toNatClampNeg) ≤ x39 → vp_in (((nI 8) * i2) + x39) 192 ∧ wp_within (fun b43 z42 => (b43 = false → ∃ n45, n45 < n35 ∧ I34 n45 z42 (x39 + nI 1)) ∧ (b43 = true → post true z42)) z36 (sf z36 39 (((nI 8) * i2) + x39).toNatClampNeg) x18 x19)) ∧ (b32 = true → post true z31)) z12 (sf z12 35 i2.toNatClampNeg) x18 x19) ∧ (¬ (sf z12 25 x15.toNatClampNeg) = nI 3 → ((sf z12 25 x15.toNatClampNeg) = nI 4 → vp_in (i2) 24 ∧ wp_within (fun b50 z49 => post b50 z49) z12 (sf z12 35 i2.toNatClampNeg) x18 x19) ∧ (¬ (sf z12 25 x15.toNatClampNeg) = nI 4 → ((sf z12 25 x15.toNatClampNeg) = nI 5 → ∃ I52 : Nat → TS → Int32 → Prop, (∃ n58, I52 n58 z12 (nI 0)) ∧ ∀ (n53 : Nat) (z54 : TS) (x57 : Int32), I52 n53 z54 x57 → vp_in (i2) 24 ∧ ((sf z54 40 i2.toNatClampNeg) ≤ x57 → post false z54) ∧ (¬ (sf z54 40 i2.toNatClampNeg) ≤ x57 → vp_in (((nI 6) * i2) + x57) 144 ∧ wp_within (fun b61 z60 => (b61 = false → ∃ n63, n63 < n53 ∧ I52 n63 z60 (x57 + nI 1)) ∧ (b61 = true → post true z60)) z54 (sf z54 41 (((nI 6) * i2) + x57).toNatClampNeg) x18 x19)) ∧ (¬ (sf z12 25 x15.toNatClampNeg) = nI 5 → ((sf z12 25 x15.toNatClampNeg) = nI 6 → vp_in (i2) 24 ∧ wp_compares (fun b68 z67 => post b68 z67) z12 (sf z12 36 i2.toNatClampNeg) x18 x19) ∧ (¬ (sf z12 25 x15.toNatClampNeg) = nI 6 → ((sf z12 25 x15.toNatClampNeg) = nI 7 → vp_in (i2) 24 ∧ wp_compares (fun b71 z70 => post b71 z70) z12 (sf z12 37 i2.toNatClampNeg) x18 x19) ∧ (¬ (sf z12 25 x15.toNatClampNeg) = nI 7 → ((sf z12 25 x15.toNatClampNeg) = nI 8 → wp_compares (fun b74 z73 => post b74 z73) z12 (sx z12 63) x18 x19) ∧ (¬ (sf z12 25 x15.toNatClampNeg) = nI 8 → wp_compares (fun b76 z75 => post b76 z75) z12 (sx z12 62) x18 x19)))))))))) ∧ ((sf z12 25 x15.toNatClampNeg) = (nI 1) → vp_in (x15) 1200 ∧ rc (fun b78 z77 => (b78 = true → vp_in (x15) 1200 ∧ ∀ x80, x80 = ((nI 400) * i1) + (sf z77 26 x15.toNatClampNeg) → ∃ n81, n81 < n11 ∧ I10 n81 z77 x80) ∧ (b78 = false → post false z77)) z12 i1 i2 (sf z12 27 x15.toNatClampNeg))) ∧ ((sf z4 25 x7.toNatClampNeg) = 0 → vp_in (x7) 1200 ∧ rc (fun b85 z84 => (b85 = false → vp_in (x7) 1200 ∧ ∀ x87, x87 = ((nI 400) * i1) + (sf z84 26 x7.toNatClampNeg) → ∃ n88, n88 < n3 ∧ I2 n88 z84 x87) ∧ (b85 = true → post true z84)) z4 i1 i2 (sf z4 27 x7.toNatClampNeg))
theorem hd_isSo : yX5_isSo.cls = RX5 ∧ yX5_isSo.cls ≠ "java/lang/invoke/MethodHandle" ∧ yX5_isSo.cls ≠ "java/lang/invoke/VarHandle" ∧ (parseMethodDescriptor yX5_isSo.desc).map (fun d => d.parameters.length) = some 3 := by decide +kernel
def wp_isSo : Nat → (Bool → TS → Prop) → TS → Int32 → Int32 → Int32 → Prop
  | 0 => fun _ _ _ _ _ => False
  | k + 1 => wb_isSo (wp_isSo k)
def d_isSo : Nat := 401
set_option maxHeartbeats 4000000 in
theorem met_isSo (l : Launch) (G : GP) (ta : Nat → Nat) (d : Nat) : ∀ (k : Nat) {post : Bool → TS → Prop} {z0 : TS} {i1 : Int32} {i2 : Int32} {i3 : Int32}, wp_isSo k post z0 i1 i2 i3 → Met l yX5_isSo (ws_ yX5_isSo cX5_isSo 8 (some .boolean)) (rmd (d + k + 1) 0 0) (tPc G ta z0 [.ref (ta 73), .int (i1), .int (i2), .int (i3)]) (tQz G ta post) 0 0 (TA ta) := by
  intro k
  induction k with
  | zero => intro post z0 i1 i2 i3 hw; exact hw.elim
  | succ k ih =>
    intro post z0 i1 i2 i3 hw
    replace hw : wb_isSo (wp_isSo k) post z0 i1 i2 i3 := hw
    unfold wb_isSo at hw
    refine tw_met (by decide) rfl (Nat.le_of_ble_eq_true rfl) ?_
    intro p e s m args below meth c ls E hr hlocks hK hT hS hl
    replace hl : lv_has ls 8 [(0, .ref (ta 73)), (1, .int (i1)), (2, .int (i2)), (3, .int (i3))] := hl
    refine lv_sipush (v := nI 400) E.1 E.2.1 dX5_isSo_0 rfl ?_
    refine lv_iload_n E.1 E.2.1 dX5_isSo_3 rfl (lv_at hl 1 rfl) ?_
    refine lv_imul E.1 E.2.1 dX5_isSo_4 ?_
    refine lv_iload_n E.1 E.2.1 dX5_isSo_5 rfl (lv_at hl 3 rfl) ?_
    refine lv_iadd E.1 E.2.1 dX5_isSo_6 ?_
    refine lv_topi (fun x1 ex1 => ?_)
    replace hw := hw x1 ex1
    refine lv_istore (lv' := [(4, .int (x1)), (0, .ref (ta 73)), (1, .int (i1)), (2, .int (i2)), (3, .int (i3))]) E.1 E.2.1 dX5_isSo_7 hl (Nat.le_of_ble_eq_true rfl) rfl (fun ls hl => ?_)
    obtain ⟨I2, ⟨n8, hi90⟩, hb89⟩ := hw
    have L6 : ∀ (n3 : Nat) (z4 : TS) (x7 : Int32), I2 n3 z4 x7 → ∀ (H : Heap) (locs : List Loc) (ls : Array Slot), TW G ta z4 H → va_S (TA ta) s.heap H locs → lv_has ls 8 [(0, .ref (ta 73)), (1, .int (i1)), (2, .int (i2)), (4, .int (x7))] → W p l e (rmd (d + (k + 1) + 1) 0 0) s m args below meth c H locs 0 0 (MQ below (tQz G ta post) args s 0 0 (TA ta)) (F0 m 9 ls []) := by
      intro n3
      induction n3 using Nat.strongRecOn with
      | _ n3 ih5 =>
        intro z4 x7 hw H locs ls hT hS hl
        replace hw := hb89 n3 z4 x7 hw
        refine lv_aload_n E.1 E.2.1 dX5_isSo_9 rfl (lv_at hl 0 rfl) ?_
        refine tw_get E hK hT 25 (Nat.le_of_ble_eq_true rfl) q1835 rfl (v := .ref (ta 25)) rfl dX5_isSo_10 ?_
        refine lv_iload E.1 E.2.1 dX5_isSo_13 (lv_at hl 3 rfl) ?_
        obtain ⟨hin, hw⟩ := hw
        refine tw_iald E hK hT 25 rfl hin dX5_isSo_15 ?_
        refine lv_if_ne (tgt := 55) E.1 E.2.1 dX5_isSo_16 (by decide) (fun c9 => ?_) (fun c9 => ?_)
        · replace hw := hw.1 (c9)
          obtain ⟨I10, ⟨n16, hi83⟩, hb82⟩ := hw
          have L14 : ∀ (n11 : Nat) (z12 : TS) (x15 : Int32), I10 n11 z12 x15 → ∀ (H : Heap) (locs : List Loc) (ls : Array Slot), TW G ta z12 H → va_S (TA ta) s.heap H locs → lv_has ls 8 [(0, .ref (ta 73)), (1, .int (i1)), (2, .int (i2)), (4, .int (x15))] → W p l e (rmd (d + (k + 1) + 1) 0 0) s m args below meth c H locs 0 0 (MQ below (tQz G ta post) args s 0 0 (TA ta)) (F0 m 55 ls []) := by
            intro n11
            induction n11 using Nat.strongRecOn with
            | _ n11 ih13 =>
              intro z12 x15 hw H locs ls hT hS hl
              replace hw := hb82 n11 z12 x15 hw
              refine lv_aload_n E.1 E.2.1 dX5_isSo_55 rfl (lv_at hl 0 rfl) ?_
              refine tw_get E hK hT 25 (Nat.le_of_ble_eq_true rfl) q1835 rfl (v := .ref (ta 25)) rfl dX5_isSo_56 ?_
              refine lv_iload E.1 E.2.1 dX5_isSo_59 (lv_at hl 3 rfl) ?_
              obtain ⟨hin, hw⟩ := hw
              refine tw_iald E hK hT 25 rfl hin dX5_isSo_61 ?_
              refine lv_iconst (v := nI 1) E.1 E.2.1 dX5_isSo_62 rfl ?_
              refine lv_icmp_ne (tgt := 102) E.1 E.2.1 dX5_isSo_63 (by decide) (fun c17 => ?_) (fun c17 => ?_)
              · replace hw := hw.1 (c17)
                refine lv_aload_n E.1 E.2.1 dX5_isSo_102 rfl (lv_at hl 0 rfl) ?_
                refine tw_get E hK hT 26 (Nat.le_of_ble_eq_true rfl) q1836 rfl (v := .ref (ta 26)) rfl dX5_isSo_103 ?_
                refine lv_iload E.1 E.2.1 dX5_isSo_106 (lv_at hl 3 rfl) ?_
                obtain ⟨hin, hw⟩ := hw
                refine tw_iald E hK hT 26 rfl hin dX5_isSo_108 ?_
                refine lv_topi (fun x18 ex18 => ?_)
                replace hw := hw x18 ex18
                refine lv_istore (lv' := [(5, .int (x18)), (0, .ref (ta 73)), (1, .int (i1)), (2, .int (i2)), (4, .int (x15))]) E.1 E.2.1 dX5_isSo_109 hl (Nat.le_of_ble_eq_true rfl) rfl (fun ls hl => ?_)
                refine lv_aload_n E.1 E.2.1 dX5_isSo_111 rfl (lv_at hl 1 rfl) ?_
                refine tw_get E hK hT 27 (Nat.le_of_ble_eq_true rfl) q1837 rfl (v := .ref (ta 27)) rfl dX5_isSo_112 ?_
                refine lv_iload E.1 E.2.1 dX5_isSo_115 (lv_at hl 4 rfl) ?_
                obtain ⟨hin, hw⟩ := hw
                refine tw_iald E hK hT 27 rfl hin dX5_isSo_117 ?_
                refine lv_topi (fun x19 ex19 => ?_)
                replace hw := hw x19 ex19
                refine lv_istore (lv' := [(6, .int (x19)), (5, .int (x18)), (0, .ref (ta 73)), (1, .int (i1)), (2, .int (i2)), (4, .int (x15))]) E.1 E.2.1 dX5_isSo_118 hl (Nat.le_of_ble_eq_true rfl) rfl (fun ls hl => ?_)
                refine lv_aload_n E.1 E.2.1 dX5_isSo_120 rfl (lv_at hl 2 rfl) ?_
                refine tw_get E hK hT 25 (Nat.le_of_ble_eq_true rfl) q1835 rfl (v := .ref (ta 25)) rfl dX5_isSo_121 ?_
                refine lv_iload E.1 E.2.1 dX5_isSo_124 (lv_at hl 5 rfl) ?_
                obtain ⟨hin, hw⟩ := hw
                refine tw_iald E hK hT 25 rfl hin dX5_isSo_126 ?_
                by_cases c20 : (sf z12 25 x15.toNatClampNeg) = nI 0
                · replace hw := hw.1 c20
                  have hti : (sf z12 25 x15.toNatClampNeg).toInt = 0 := by rw [c20]; decide
                  refine lv_tableIn (tgt := 176) (off := 49) E.1 E.2.1 dX5_isSo_127 (by rw [hti]; decide) (by rw [hti]; decide) (by rw [hti]; rfl) (by decide) ?_
                  refine lv_aload_n E.1 E.2.1 dX5_isSo_176 rfl (lv_at hl 2 rfl) ?_
                  refine lv_iload_n E.1 E.2.1 dX5_isSo_177 rfl (lv_at hl 3 rfl) ?_
                  refine lv_iload_n E.1 E.2.1 dX5_isSo_178 rfl (lv_at hl 4 rfl) ?_
                  refine lv_iload E.1 E.2.1 dX5_isSo_179 (lv_at hl 5 rfl) ?_
                  refine lv_sipush (v := nI 400) E.1 E.2.1 dX5_isSo_181 rfl ?_
                  refine lv_iload_n E.1 E.2.1 dX5_isSo_184 rfl (lv_at hl 3 rfl) ?_
                  refine lv_imul E.1 E.2.1 dX5_isSo_185 ?_
                  refine lv_isub E.1 E.2.1 dX5_isSo_186 ?_
                  refine tw_callVz E hK hT hS (As := [.int (i1), .int (i2), .int (x15 - ((nI 400) * i1))]) (rest := []) (ih hw) (cwV 3 E.2.2.2.2 (lw_V q2367 q2369 qs114 q128 q2370) rfl rfl rfl hd_isSo (rm_ok (by omega) (by decide))) rfl rfl hl.1 (Nat.le_of_ble_eq_true rfl) dX5_isSo_187 (fun b22 z21 H locs hw hT hS => ?_)
                  exact tw_iretz (b := b22) E hr hlocks hT hS rfl hw dX5_isSo_190
                replace hw := hw.2 c20
                by_cases c23 : (sf z12 25 x15.toNatClampNeg) = nI 1
                · replace hw := hw.1 c23
                  have hti : (sf z12 25 x15.toNatClampNeg).toInt = 1 := by rw [c23]; decide
                  refine lv_tableIn (tgt := 372) (off := 245) E.1 E.2.1 dX5_isSo_127 (by rw [hti]; decide) (by rw [hti]; decide) (by rw [hti]; rfl) (by decide) ?_
                  refine lv_aload_n E.1 E.2.1 dX5_isSo_372 rfl (lv_at hl 2 rfl) ?_
                  refine tw_get E hK hT 62 (Nat.le_of_ble_eq_true rfl) q1872 rfl (v := .int (sx z12 62)) rfl dX5_isSo_373 ?_
                  refine lv_iload E.1 E.2.1 dX5_isSo_376 (lv_at hl 1 rfl) ?_
                  refine lv_iload E.1 E.2.1 dX5_isSo_378 (lv_at hl 0 rfl) ?_
                  refine tw_callSz E hK hT hS (As := [.int (sx z12 62), .int (x18), .int (x19)]) (rest := []) (met_compares l G ta (d + k + 1) hw) (va_cwS 3 E.2.2.2.2 (lw_S q2267 q2268 q128 q2269) rfl rfl rfl hs_compares (rm_ok (by omega) (by decide))) rfl rfl hl.1 (Nat.le_of_ble_eq_true rfl) dX5_isSo_380 (fun b25 z24 H locs hw hT hS => ?_)
                  exact tw_iretz (b := b25) E hr hlocks hT hS rfl hw dX5_isSo_383
                replace hw := hw.2 c23
                by_cases c26 : (sf z12 25 x15.toNatClampNeg) = nI 2
                · replace hw := hw.1 c26
                  have hti : (sf z12 25 x15.toNatClampNeg).toInt = 2 := by rw [c26]; decide
                  refine lv_tableIn (tgt := 191) (off := 64) E.1 E.2.1 dX5_isSo_127 (by rw [hti]; decide) (by rw [hti]; decide) (by rw [hti]; rfl) (by decide) ?_
                  refine lv_aload_n E.1 E.2.1 dX5_isSo_191 rfl (lv_at hl 2 rfl) ?_
                  refine lv_iload_n E.1 E.2.1 dX5_isSo_192 rfl (lv_at hl 3 rfl) ?_
                  refine lv_iload_n E.1 E.2.1 dX5_isSo_193 rfl (lv_at hl 4 rfl) ?_
                  refine lv_iload E.1 E.2.1 dX5_isSo_194 (lv_at hl 1 rfl) ?_
                  refine tw_callVz E hK hT hS (As := [.int (i1), .int (i2), .int (x18)]) (rest := []) (ih hw) (cwV 3 E.2.2.2.2 (lw_V q2367 q2369 qs114 q128 q2370) rfl rfl rfl hd_isSo (rm_ok (by omega) (by decide))) rfl rfl hl.1 (Nat.le_of_ble_eq_true rfl) dX5_isSo_196 (fun b28 z27 H locs hw hT hS => ?_)
                  refine lv_if_ne (tgt := 206) E.1 E.2.1 dX5_isSo_199 (by decide) (fun c29 => ?_) (fun c29 => ?_)
                  · replace hw := hw.1 (bi_n c29)
                    refine lv_iconst (v := nI 0) E.1 E.2.1 dX5_isSo_206 rfl ?_
                    exact tw_iretz (b := false) E hr hlocks hT hS rfl hw dX5_isSo_207
                  · replace hw := hw.2 (bi_z c29)
                    refine lv_iconst (v := nI 1) E.1 E.2.1 dX5_isSo_202 rfl ?_
                    refine lv_goto (tgt := 207) E.1 E.2.1 dX5_isSo_203 (by decide) ?_
                    exact tw_iretz (b := true) E hr hlocks hT hS rfl hw dX5_isSo_207
                replace hw := hw.2 c26
                by_cases c30 : (sf z12 25 x15.toNatClampNeg) = nI 3
                · replace hw := hw.1 c30
                  have hti : (sf z12 25 x15.toNatClampNeg).toInt = 3 := by rw [c30]; decide
                  refine lv_tableIn (tgt := 208) (off := 81) E.1 E.2.1 dX5_isSo_127 (by rw [hti]; decide) (by rw [hti]; decide) (by rw [hti]; rfl) (by decide) ?_
                  refine lv_aload_n E.1 E.2.1 dX5_isSo_208 rfl (lv_at hl 2 rfl) ?_
                  refine tw_get E hK hT 35 (Nat.le_of_ble_eq_true rfl) q1845 rfl (v := .ref (ta 35)) rfl dX5_isSo_209 ?_
                  refine lv_iload_n E.1 E.2.1 dX5_isSo_212 rfl (lv_at hl 4 rfl) ?_
                  obtain ⟨hin, hw⟩ := hw
                  refine tw_iald E hK hT 35 rfl hin dX5_isSo_213 ?_
                  refine lv_iload E.1 E.2.1 dX5_isSo_214 (lv_at hl 1 rfl) ?_
                  refine lv_iload E.1 E.2.1 dX5_isSo_216 (lv_at hl 0 rfl) ?_
                  refine tw_callSz E hK hT hS (As := [.int (sf z12 35 i2.toNatClampNeg), .int (x18), .int (x19)]) (rest := []) (met_within l G ta (d + k + 1) hw) (va_cwS 3 E.2.2.2.2 (lw_S q2048 q2049 q128 q2050) rfl rfl rfl hs_within (rm_ok (by omega) (by decide))) rfl rfl hl.1 (Nat.le_of_ble_eq_true rfl) dX5_isSo_218 (fun b32 z31 H locs hw hT hS => ?_)
                  refine lv_if_eq (tgt := 226) E.1 E.2.1 dX5_isSo_221 (by decide) (fun c33 => ?_) (fun c33 => ?_)
                  · replace hw := hw.1 (bi_z c33)
                    refine lv_iconst (v := nI 0) E.1 E.2.1 dX5_isSo_226 rfl ?_
                    refine lv_istore (lv' := [(7, .int (nI 0)), (6, .int (x19)), (5, .int (x18)), (0, .ref (ta 73)), (1, .int (i1)), (2, .int (i2)), (4, .int (x15))]) E.1 E.2.1 dX5_isSo_227 hl (Nat.le_of_ble_eq_true rfl) rfl (fun ls hl => ?_)
                    obtain ⟨I34, ⟨n40, hi47⟩, hb46⟩ := hw
                    have L38 : ∀ (n35 : Nat) (z36 : TS) (x39 : Int32), I34 n35 z36 x39 → ∀ (H : Heap) (locs : List Loc) (ls : Array Slot), TW G ta z36 H → va_S (TA ta) s.heap H locs → lv_has ls 8 [(0, .ref (ta 73)), (2, .int (i2)), (5, .int (x18)), (6, .int (x19)), (7, .int (x39))] → W p l e (rmd (d + (k + 1) + 1) 0 0) s m args below meth c H locs 0 0 (MQ below (tQz G ta post) args s 0 0 (TA ta)) (F0 m 229 ls []) := by
                      intro n35
                      induction n35 using Nat.strongRecOn with
                      | _ n35 ih37 =>
                        intro z36 x39 hw H locs ls hT hS hl
                        replace hw := hb46 n35 z36 x39 hw
                        refine lv_iload E.1 E.2.1 dX5_isSo_229 (lv_at hl 4 rfl) ?_
                        refine lv_aload_n E.1 E.2.1 dX5_isSo_231 rfl (lv_at hl 0 rfl) ?_
                        refine tw_get E hK hT 38 (Nat.le_of_ble_eq_true rfl) q1848 rfl (v := .ref (ta 38)) rfl dX5_isSo_232 ?_
                        refine lv_iload_n E.1 E.2.1 dX5_isSo_235 rfl (lv_at hl 1 rfl) ?_
                        obtain ⟨hin, hw⟩ := hw
                        refine tw_iald E hK hT 38 rfl hin dX5_isSo_236 ?_
                        refine lv_icmp_ge (tgt := 270) E.1 E.2.1 dX5_isSo_237 (by decide) (fun c41 => ?_) (fun c41 => ?_)
                        · replace hw := hw.1 (c41)
                          refine lv_iconst (v := nI 0) E.1 E.2.1 dX5_isSo_270 rfl ?_
                          exact tw_iretz (b := false) E hr hlocks hT hS rfl hw dX5_isSo_271
                        · replace hw := hw.2 (c41)
                          refine lv_aload_n E.1 E.2.1 dX5_isSo_240 rfl (lv_at hl 0 rfl) ?_
                          refine tw_get E hK hT 39 (Nat.le_of_ble_eq_true rfl) q1849 rfl (v := .ref (ta 39)) rfl dX5_isSo_241 ?_
                          refine lv_bipush (v := nI 8) E.1 E.2.1 dX5_isSo_244 rfl ?_
                          refine lv_iload_n E.1 E.2.1 dX5_isSo_246 rfl (lv_at hl 1 rfl) ?_
                          refine lv_imul E.1 E.2.1 dX5_isSo_247 ?_
                          refine lv_iload E.1 E.2.1 dX5_isSo_248 (lv_at hl 4 rfl) ?_
                          refine lv_iadd E.1 E.2.1 dX5_isSo_250 ?_
                          obtain ⟨hin, hw⟩ := hw
                          refine tw_iald E hK hT 39 rfl hin dX5_isSo_251 ?_
                          refine lv_iload E.1 E.2.1 dX5_isSo_252 (lv_at hl 2 rfl) ?_
                          refine lv_iload E.1 E.2.1 dX5_isSo_254 (lv_at hl 3 rfl) ?_
                          refine tw_callSz E hK hT hS (As := [.int (sf z36 39 (((nI 8) * i2) + x39).toNatClampNeg), .int (x18), .int (x19)]) (rest := []) (met_within l G ta (d + k + 1) hw) (va_cwS 3 E.2.2.2.2 (lw_S q2048 q2049 q128 q2050) rfl rfl rfl hs_within (rm_ok (by omega) (by decide))) rfl rfl hl.1 (Nat.le_of_ble_eq_true rfl) dX5_isSo_256 (fun b43 z42 H locs hw hT hS => ?_)
                          refine lv_if_eq (tgt := 264) E.1 E.2.1 dX5_isSo_259 (by decide) (fun c44 => ?_) (fun c44 => ?_)
                          · replace hw := hw.1 (bi_z c44)
                            refine lv_iinc (k := 4) (v := x39 + nI 1) (lv' := [(7, .int (x39 + nI 1)), (0, .ref (ta 73)), (2, .int (i2)), (5, .int (x18)), (6, .int (x19))]) E.1 E.2.1 dX5_isSo_264 hl rfl rfl (Nat.le_of_ble_eq_true rfl) rfl (fun ls hl => ?_)
                            refine lv_goto (tgt := 229) E.1 E.2.1 dX5_isSo_267 (by decide) ?_
                            obtain ⟨n45, hnn45, hin45⟩ := hw
                            exact ih37 n45 hnn45 _ _ hin45 _ _ _ hT hS (lv_sub hl [1, 2, 3, 4, 0] rfl)
                          · replace hw := hw.2 (bi_n c44)
                            refine lv_iconst (v := nI 1) E.1 E.2.1 dX5_isSo_262 rfl ?_
                            exact tw_iretz (b := true) E hr hlocks hT hS rfl hw dX5_isSo_263
                    exact L38 n40 _ _ hi47 _ _ _ hT hS (lv_sub hl [3, 5, 2, 1, 0] rfl)
                  · replace hw := hw.2 (bi_n c33)
                    refine lv_iconst (v := nI 1) E.1 E.2.1 dX5_isSo_224 rfl ?_
                    exact tw_iretz (b := true) E hr hlocks hT hS rfl hw dX5_isSo_225
                replace hw := hw.2 c30
                by_cases c48 : (sf z12 25 x15.toNatClampNeg) = nI 4
                · replace hw := hw.1 c48
                  have hti : (sf z12 25 x15.toNatClampNeg).toInt = 4 := by rw [c48]; decide
                  refine lv_tableIn (tgt := 272) (off := 145) E.1 E.2.1 dX5_isSo_127 (by rw [hti]; decide) (by rw [hti]; decide) (by rw [hti]; rfl) (by decide) ?_
                  refine lv_aload_n E.1 E.2.1 dX5_isSo_272 rfl (lv_at hl 2 rfl) ?_
                  refine tw_get E hK hT 35 (Nat.le_of_ble_eq_true rfl) q1845 rfl (v := .ref (ta 35)) rfl dX5_isSo_273 ?_
                  refine lv_iload_n E.1 E.2.1 dX5_isSo_276 rfl (lv_at hl 4 rfl) ?_
                  obtain ⟨hin, hw⟩ := hw
                  refine tw_iald E hK hT 35 rfl hin dX5_isSo_277 ?_
                  refine lv_iload E.1 E.2.1 dX5_isSo_278 (lv_at hl 1 rfl) ?_
                  refine lv_iload E.1 E.2.1 dX5_isSo_280 (lv_at hl 0 rfl) ?_
                  refine tw_callSz E hK hT hS (As := [.int (sf z12 35 i2.toNatClampNeg), .int (x18), .int (x19)]) (rest := []) (met_within l G ta (d + k + 1) hw) (va_cwS 3 E.2.2.2.2 (lw_S q2048 q2049 q128 q2050) rfl rfl rfl hs_within (rm_ok (by omega) (by decide))) rfl rfl hl.1 (Nat.le_of_ble_eq_true rfl) dX5_isSo_282 (fun b50 z49 H locs hw hT hS => ?_)
                  exact tw_iretz (b := b50) E hr hlocks hT hS rfl hw dX5_isSo_285
                replace hw := hw.2 c48
                by_cases c51 : (sf z12 25 x15.toNatClampNeg) = nI 5
                · replace hw := hw.1 c51
                  have hti : (sf z12 25 x15.toNatClampNeg).toInt = 5 := by rw [c51]; decide
                  refine lv_tableIn (tgt := 286) (off := 159) E.1 E.2.1 dX5_isSo_127 (by rw [hti]; decide) (by rw [hti]; decide) (by rw [hti]; rfl) (by decide) ?_
                  refine lv_iconst (v := nI 0) E.1 E.2.1 dX5_isSo_286 rfl ?_
                  refine lv_istore (lv' := [(7, .int (nI 0)), (6, .int (x19)), (5, .int (x18)), (0, .ref (ta 73)), (1, .int (i1)), (2, .int (i2)), (4, .int (x15))]) E.1 E.2.1 dX5_isSo_287 hl (Nat.le_of_ble_eq_true rfl) rfl (fun ls hl => ?_)
                  obtain ⟨I52, ⟨n58, hi65⟩, hb64⟩ := hw
                  have L56 : ∀ (n53 : Nat) (z54 : TS) (x57 : Int32), I52 n53 z54 x57 → ∀ (H : Heap) (locs : List Loc) (ls : Array Slot), TW G ta z54 H → va_S (TA ta) s.heap H locs → lv_has ls 8 [(0, .ref (ta 73)), (2, .int (i2)), (5, .int (x18)), (6, .int (x19)), (7, .int (x57))] → W p l e (rmd (d + (k + 1) + 1) 0 0) s m args below meth c H locs 0 0 (MQ below (tQz G ta post) args s 0 0 (TA ta)) (F0 m 289 ls []) := by
                    intro n53
                    induction n53 using Nat.strongRecOn with
                    | _ n53 ih55 =>
                      intro z54 x57 hw H locs ls hT hS hl
                      replace hw := hb64 n53 z54 x57 hw
                      refine lv_iload E.1 E.2.1 dX5_isSo_289 (lv_at hl 4 rfl) ?_
                      refine lv_aload_n E.1 E.2.1 dX5_isSo_291 rfl (lv_at hl 0 rfl) ?_
                      refine tw_get E hK hT 40 (Nat.le_of_ble_eq_true rfl) q1850 rfl (v := .ref (ta 40)) rfl dX5_isSo_292 ?_
                      refine lv_iload_n E.1 E.2.1 dX5_isSo_295 rfl (lv_at hl 1 rfl) ?_
                      obtain ⟨hin, hw⟩ := hw
                      refine tw_iald E hK hT 40 rfl hin dX5_isSo_296 ?_
                      refine lv_icmp_ge (tgt := 330) E.1 E.2.1 dX5_isSo_297 (by decide) (fun c59 => ?_) (fun c59 => ?_)
                      · replace hw := hw.1 (c59)
                        refine lv_iconst (v := nI 0) E.1 E.2.1 dX5_isSo_330 rfl ?_
                        exact tw_iretz (b := false) E hr hlocks hT hS rfl hw dX5_isSo_331
                      · replace hw := hw.2 (c59)
                        refine lv_aload_n E.1 E.2.1 dX5_isSo_300 rfl (lv_at hl 0 rfl) ?_
                        refine tw_get E hK hT 41 (Nat.le_of_ble_eq_true rfl) q1851 rfl (v := .ref (ta 41)) rfl dX5_isSo_301 ?_
                        refine lv_bipush (v := nI 6) E.1 E.2.1 dX5_isSo_304 rfl ?_
                        refine lv_iload_n E.1 E.2.1 dX5_isSo_306 rfl (lv_at hl 1 rfl) ?_
                        refine lv_imul E.1 E.2.1 dX5_isSo_307 ?_
                        refine lv_iload E.1 E.2.1 dX5_isSo_308 (lv_at hl 4 rfl) ?_
                        refine lv_iadd E.1 E.2.1 dX5_isSo_310 ?_
                        obtain ⟨hin, hw⟩ := hw
                        refine tw_iald E hK hT 41 rfl hin dX5_isSo_311 ?_
                        refine lv_iload E.1 E.2.1 dX5_isSo_312 (lv_at hl 2 rfl) ?_
                        refine lv_iload E.1 E.2.1 dX5_isSo_314 (lv_at hl 3 rfl) ?_
                        refine tw_callSz E hK hT hS (As := [.int (sf z54 41 (((nI 6) * i2) + x57).toNatClampNeg), .int (x18), .int (x19)]) (rest := []) (met_within l G ta (d + k + 1) hw) (va_cwS 3 E.2.2.2.2 (lw_S q2048 q2049 q128 q2050) rfl rfl rfl hs_within (rm_ok (by omega) (by decide))) rfl rfl hl.1 (Nat.le_of_ble_eq_true rfl) dX5_isSo_316 (fun b61 z60 H locs hw hT hS => ?_)
                        refine lv_if_eq (tgt := 324) E.1 E.2.1 dX5_isSo_319 (by decide) (fun c62 => ?_) (fun c62 => ?_)
                        · replace hw := hw.1 (bi_z c62)
                          refine lv_iinc (k := 4) (v := x57 + nI 1) (lv' := [(7, .int (x57 + nI 1)), (0, .ref (ta 73)), (2, .int (i2)), (5, .int (x18)), (6, .int (x19))]) E.1 E.2.1 dX5_isSo_324 hl rfl rfl (Nat.le_of_ble_eq_true rfl) rfl (fun ls hl => ?_)
                          refine lv_goto (tgt := 289) E.1 E.2.1 dX5_isSo_327 (by decide) ?_
                          obtain ⟨n63, hnn63, hin63⟩ := hw
                          exact ih55 n63 hnn63 _ _ hin63 _ _ _ hT hS (lv_sub hl [1, 2, 3, 4, 0] rfl)
                        · replace hw := hw.2 (bi_n c62)
                          refine lv_iconst (v := nI 1) E.1 E.2.1 dX5_isSo_322 rfl ?_
                          exact tw_iretz (b := true) E hr hlocks hT hS rfl hw dX5_isSo_323
                  exact L56 n58 _ _ hi65 _ _ _ hT hS (lv_sub hl [3, 5, 2, 1, 0] rfl)
                replace hw := hw.2 c51
                by_cases c66 : (sf z12 25 x15.toNatClampNeg) = nI 6
                · replace hw := hw.1 c66
                  have hti : (sf z12 25 x15.toNatClampNeg).toInt = 6 := by rw [c66]; decide
                  refine lv_tableIn (tgt := 332) (off := 205) E.1 E.2.1 dX5_isSo_127 (by rw [hti]; decide) (by rw [hti]; decide) (by rw [hti]; rfl) (by decide) ?_
                  refine lv_aload_n E.1 E.2.1 dX5_isSo_332 rfl (lv_at hl 2 rfl) ?_
                  refine tw_get E hK hT 36 (Nat.le_of_ble_eq_true rfl) q1846 rfl (v := .ref (ta 36)) rfl dX5_isSo_333 ?_
                  refine lv_iload_n E.1 E.2.1 dX5_isSo_336 rfl (lv_at hl 4 rfl) ?_
                  obtain ⟨hin, hw⟩ := hw
                  refine tw_iald E hK hT 36 rfl hin dX5_isSo_337 ?_
                  refine lv_iload E.1 E.2.1 dX5_isSo_338 (lv_at hl 1 rfl) ?_
                  refine lv_iload E.1 E.2.1 dX5_isSo_340 (lv_at hl 0 rfl) ?_
                  refine tw_callSz E hK hT hS (As := [.int (sf z12 36 i2.toNatClampNeg), .int (x18), .int (x19)]) (rest := []) (met_compares l G ta (d + k + 1) hw) (va_cwS 3 E.2.2.2.2 (lw_S q2267 q2268 q128 q2269) rfl rfl rfl hs_compares (rm_ok (by omega) (by decide))) rfl rfl hl.1 (Nat.le_of_ble_eq_true rfl) dX5_isSo_342 (fun b68 z67 H locs hw hT hS => ?_)
                  exact tw_iretz (b := b68) E hr hlocks hT hS rfl hw dX5_isSo_345
                replace hw := hw.2 c66
                by_cases c69 : (sf z12 25 x15.toNatClampNeg) = nI 7
                · replace hw := hw.1 c69
                  have hti : (sf z12 25 x15.toNatClampNeg).toInt = 7 := by rw [c69]; decide
                  refine lv_tableIn (tgt := 346) (off := 219) E.1 E.2.1 dX5_isSo_127 (by rw [hti]; decide) (by rw [hti]; decide) (by rw [hti]; rfl) (by decide) ?_
                  refine lv_aload_n E.1 E.2.1 dX5_isSo_346 rfl (lv_at hl 2 rfl) ?_
                  refine tw_get E hK hT 37 (Nat.le_of_ble_eq_true rfl) q1847 rfl (v := .ref (ta 37)) rfl dX5_isSo_347 ?_
                  refine lv_iload_n E.1 E.2.1 dX5_isSo_350 rfl (lv_at hl 4 rfl) ?_
                  obtain ⟨hin, hw⟩ := hw
                  refine tw_iald E hK hT 37 rfl hin dX5_isSo_351 ?_
                  refine lv_iload E.1 E.2.1 dX5_isSo_352 (lv_at hl 1 rfl) ?_
                  refine lv_iload E.1 E.2.1 dX5_isSo_354 (lv_at hl 0 rfl) ?_
                  refine tw_callSz E hK hT hS (As := [.int (sf z12 37 i2.toNatClampNeg), .int (x18), .int (x19)]) (rest := []) (met_compares l G ta (d + k + 1) hw) (va_cwS 3 E.2.2.2.2 (lw_S q2267 q2268 q128 q2269) rfl rfl rfl hs_compares (rm_ok (by omega) (by decide))) rfl rfl hl.1 (Nat.le_of_ble_eq_true rfl) dX5_isSo_356 (fun b71 z70 H locs hw hT hS => ?_)
                  exact tw_iretz (b := b71) E hr hlocks hT hS rfl hw dX5_isSo_359
                replace hw := hw.2 c69
                by_cases c72 : (sf z12 25 x15.toNatClampNeg) = nI 8
                · replace hw := hw.1 c72
                  have hti : (sf z12 25 x15.toNatClampNeg).toInt = 8 := by rw [c72]; decide
                  refine lv_tableIn (tgt := 360) (off := 233) E.1 E.2.1 dX5_isSo_127 (by rw [hti]; decide) (by rw [hti]; decide) (by rw [hti]; rfl) (by decide) ?_
                  refine lv_aload_n E.1 E.2.1 dX5_isSo_360 rfl (lv_at hl 2 rfl) ?_
                  refine tw_get E hK hT 63 (Nat.le_of_ble_eq_true rfl) q1873 rfl (v := .int (sx z12 63)) rfl dX5_isSo_361 ?_
                  refine lv_iload E.1 E.2.1 dX5_isSo_364 (lv_at hl 1 rfl) ?_
                  refine lv_iload E.1 E.2.1 dX5_isSo_366 (lv_at hl 0 rfl) ?_
                  refine tw_callSz E hK hT hS (As := [.int (sx z12 63), .int (x18), .int (x19)]) (rest := []) (met_compares l G ta (d + k + 1) hw) (va_cwS 3 E.2.2.2.2 (lw_S q2267 q2268 q128 q2269) rfl rfl rfl hs_compares (rm_ok (by omega) (by decide))) rfl rfl hl.1 (Nat.le_of_ble_eq_true rfl) dX5_isSo_368 (fun b74 z73 H locs hw hT hS => ?_)
                  exact tw_iretz (b := b74) E hr hlocks hT hS rfl hw dX5_isSo_371
                replace hw := hw.2 c72
                refine lv_tableOut (tgt := 372) E.1 E.2.1 dX5_isSo_127 (tab_out (fun j h1 h2 h3 => ?_)) (by decide) ?_
                · have hj : j = 0 ∨ j = 1 ∨ j = 2 ∨ j = 3 ∨ j = 4 ∨ j = 5 ∨ j = 6 ∨ j = 7 ∨ j = 8 := by omega
                  rcases hj with rfl | rfl | rfl | rfl | rfl | rfl | rfl | rfl | rfl
                  · exact c20 (Int32.toInt_inj.mp (by rw [h3]; decide))
                  · exact c23 (Int32.toInt_inj.mp (by rw [h3]; decide))
                  · exact c26 (Int32.toInt_inj.mp (by rw [h3]; decide))
                  · exact c30 (Int32.toInt_inj.mp (by rw [h3]; decide))
                  · exact c48 (Int32.toInt_inj.mp (by rw [h3]; decide))
                  · exact c51 (Int32.toInt_inj.mp (by rw [h3]; decide))
                  · exact c66 (Int32.toInt_inj.mp (by rw [h3]; decide))
                  · exact c69 (Int32.toInt_inj.mp (by rw [h3]; decide))
                  · exact c72 (Int32.toInt_inj.mp (by rw [h3]; decide))
                · skip
                  refine lv_aload_n E.1 E.2.1 dX5_isSo_372 rfl (lv_at hl 2 rfl) ?_
                  refine tw_get E hK hT 62 (Nat.le_of_ble_eq_true rfl) q1872 rfl (v := .int (sx z12 62)) rfl dX5_isSo_373 ?_
                  refine lv_iload E.1 E.2.1 dX5_isSo_376 (lv_at hl 1 rfl) ?_
                  refine lv_iload E.1 E.2.1 dX5_isSo_378 (lv_at hl 0 rfl) ?_
                  refine tw_callSz E hK hT hS (As := [.int (sx z12 62), .int (x18), .int (x19)]) (rest := []) (met_compares l G ta (d + k + 1) hw) (va_cwS 3 E.2.2.2.2 (lw_S q2267 q2268 q128 q2269) rfl rfl rfl hs_compares (rm_ok (by omega) (by decide))) rfl rfl hl.1 (Nat.le_of_ble_eq_true rfl) dX5_isSo_380 (fun b76 z75 H locs hw hT hS => ?_)
                  exact tw_iretz (b := b76) E hr hlocks hT hS rfl hw dX5_isSo_383
              · replace hw := hw.2 (c17)
                refine lv_aload_n E.1 E.2.1 dX5_isSo_66 rfl (lv_at hl 0 rfl) ?_
                refine lv_iload_n E.1 E.2.1 dX5_isSo_67 rfl (lv_at hl 1 rfl) ?_
                refine lv_iload_n E.1 E.2.1 dX5_isSo_68 rfl (lv_at hl 2 rfl) ?_
                refine lv_aload_n E.1 E.2.1 dX5_isSo_69 rfl (lv_at hl 0 rfl) ?_
                refine tw_get E hK hT 27 (Nat.le_of_ble_eq_true rfl) q1837 rfl (v := .ref (ta 27)) rfl dX5_isSo_70 ?_
                refine lv_iload E.1 E.2.1 dX5_isSo_73 (lv_at hl 3 rfl) ?_
                obtain ⟨hin, hw⟩ := hw
                refine tw_iald E hK hT 27 rfl hin dX5_isSo_75 ?_
                refine tw_callVz E hK hT hS (As := [.int (i1), .int (i2), .int (sf z12 27 x15.toNatClampNeg)]) (rest := []) (ih hw) (cwV 3 E.2.2.2.2 (lw_V q2367 q2369 qs114 q128 q2370) rfl rfl rfl hd_isSo (rm_ok (by omega) (by decide))) rfl rfl hl.1 (Nat.le_of_ble_eq_true rfl) dX5_isSo_76 (fun b78 z77 H locs hw hT hS => ?_)
                refine lv_if_ne (tgt := 84) E.1 E.2.1 dX5_isSo_79 (by decide) (fun c79 => ?_) (fun c79 => ?_)
                · replace hw := hw.1 (bi_n c79)
                  refine lv_sipush (v := nI 400) E.1 E.2.1 dX5_isSo_84 rfl ?_
                  refine lv_iload_n E.1 E.2.1 dX5_isSo_87 rfl (lv_at hl 1 rfl) ?_
                  refine lv_imul E.1 E.2.1 dX5_isSo_88 ?_
                  refine lv_aload_n E.1 E.2.1 dX5_isSo_89 rfl (lv_at hl 0 rfl) ?_
                  refine tw_get E hK hT 26 (Nat.le_of_ble_eq_true rfl) q1836 rfl (v := .ref (ta 26)) rfl dX5_isSo_90 ?_
                  refine lv_iload E.1 E.2.1 dX5_isSo_93 (lv_at hl 3 rfl) ?_
                  obtain ⟨hin, hw⟩ := hw
                  refine tw_iald E hK hT 26 rfl hin dX5_isSo_95 ?_
                  refine lv_iadd E.1 E.2.1 dX5_isSo_96 ?_
                  refine lv_topi (fun x80 ex80 => ?_)
                  replace hw := hw x80 ex80
                  refine lv_istore (lv' := [(4, .int (x80)), (0, .ref (ta 73)), (1, .int (i1)), (2, .int (i2))]) E.1 E.2.1 dX5_isSo_97 hl (Nat.le_of_ble_eq_true rfl) rfl (fun ls hl => ?_)
                  refine lv_goto (tgt := 55) E.1 E.2.1 dX5_isSo_99 (by decide) ?_
                  obtain ⟨n81, hnn81, hin81⟩ := hw
                  exact ih13 n81 hnn81 _ _ hin81 _ _ _ hT hS (lv_sub hl [1, 2, 3, 0] rfl)
                · replace hw := hw.2 (bi_z c79)
                  refine lv_iconst (v := nI 0) E.1 E.2.1 dX5_isSo_82 rfl ?_
                  exact tw_iretz (b := false) E hr hlocks hT hS rfl hw dX5_isSo_83
          exact L14 n16 _ _ hi83 _ _ _ hT hS (lv_sub hl [0, 1, 2, 3] rfl)
        · replace hw := hw.2 (c9)
          refine lv_aload_n E.1 E.2.1 dX5_isSo_19 rfl (lv_at hl 0 rfl) ?_
          refine lv_iload_n E.1 E.2.1 dX5_isSo_20 rfl (lv_at hl 1 rfl) ?_
          refine lv_iload_n E.1 E.2.1 dX5_isSo_21 rfl (lv_at hl 2 rfl) ?_
          refine lv_aload_n E.1 E.2.1 dX5_isSo_22 rfl (lv_at hl 0 rfl) ?_
          refine tw_get E hK hT 27 (Nat.le_of_ble_eq_true rfl) q1837 rfl (v := .ref (ta 27)) rfl dX5_isSo_23 ?_
          refine lv_iload E.1 E.2.1 dX5_isSo_26 (lv_at hl 3 rfl) ?_
          obtain ⟨hin, hw⟩ := hw
          refine tw_iald E hK hT 27 rfl hin dX5_isSo_28 ?_
          refine tw_callVz E hK hT hS (As := [.int (i1), .int (i2), .int (sf z4 27 x7.toNatClampNeg)]) (rest := []) (ih hw) (cwV 3 E.2.2.2.2 (lw_V q2367 q2369 qs114 q128 q2370) rfl rfl rfl hd_isSo (rm_ok (by omega) (by decide))) rfl rfl hl.1 (Nat.le_of_ble_eq_true rfl) dX5_isSo_29 (fun b85 z84 H locs hw hT hS => ?_)
          refine lv_if_eq (tgt := 37) E.1 E.2.1 dX5_isSo_32 (by decide) (fun c86 => ?_) (fun c86 => ?_)
          · replace hw := hw.1 (bi_z c86)
            refine lv_sipush (v := nI 400) E.1 E.2.1 dX5_isSo_37 rfl ?_
            refine lv_iload_n E.1 E.2.1 dX5_isSo_40 rfl (lv_at hl 1 rfl) ?_
            refine lv_imul E.1 E.2.1 dX5_isSo_41 ?_
            refine lv_aload_n E.1 E.2.1 dX5_isSo_42 rfl (lv_at hl 0 rfl) ?_
            refine tw_get E hK hT 26 (Nat.le_of_ble_eq_true rfl) q1836 rfl (v := .ref (ta 26)) rfl dX5_isSo_43 ?_
            refine lv_iload E.1 E.2.1 dX5_isSo_46 (lv_at hl 3 rfl) ?_
            obtain ⟨hin, hw⟩ := hw
            refine tw_iald E hK hT 26 rfl hin dX5_isSo_48 ?_
            refine lv_iadd E.1 E.2.1 dX5_isSo_49 ?_
            refine lv_topi (fun x87 ex87 => ?_)
            replace hw := hw x87 ex87
            refine lv_istore (lv' := [(4, .int (x87)), (0, .ref (ta 73)), (1, .int (i1)), (2, .int (i2))]) E.1 E.2.1 dX5_isSo_50 hl (Nat.le_of_ble_eq_true rfl) rfl (fun ls hl => ?_)
            refine lv_goto (tgt := 9) E.1 E.2.1 dX5_isSo_52 (by decide) ?_
            obtain ⟨n88, hnn88, hin88⟩ := hw
            exact ih5 n88 hnn88 _ _ hin88 _ _ _ hT hS (lv_sub hl [1, 2, 3, 0] rfl)
          · replace hw := hw.2 (bi_n c86)
            refine lv_iconst (v := nI 1) E.1 E.2.1 dX5_isSo_35 rfl ?_
            exact tw_iretz (b := true) E hr hlocks hT hS rfl hw dX5_isSo_36
    exact L6 n8 _ _ hi90 _ _ _ hT hS (lv_sub hl [1, 2, 3, 0] rfl)
/-- isBut(II)Z -/
def wp_isBut (post : Bool → TS → Prop) (z0 : TS) (i1 : Int32) (i2 : Int32) : Prop := ∃ I1 : Nat → TS → Int32 → Prop, (∃ n7, I1 n7 z0 (nI 0)) ∧ ∀ (n2 : Nat) (z3 : TS) (x6 : Int32), I1 n2 z3 x6 → vp_in (i1) 30 ∧ ((sf z3 15 i1.toNatClampNeg) ≤ x6 → post false z3) ∧ (¬ (sf z3 15 i1.toNatClampNeg) ≤ x6 → vp_in (((nI 3) * i1) + x6) 90 ∧ vp_in (((nI 3) * i1) + x6) 90 ∧ wp_within (fun b10 z9 => (b10 = false → ∃ n12, n12 < n2 ∧ I1 n12 z9 (x6 + nI 1)) ∧ (b10 = true → post true z9)) z3 i2 (sf z3 16 (((nI 3) * i1) + x6).toNatClampNeg) (sf z3 17 (((nI 3) * i1) + x6).toNatClampNeg))
theorem hd_isBut : yX5_isBut.cls = RX5 ∧ yX5_isBut.cls ≠ "java/lang/invoke/MethodHandle" ∧ yX5_isBut.cls ≠ "java/lang/invoke/VarHandle" ∧ (parseMethodDescriptor yX5_isBut.desc).map (fun d => d.parameters.length) = some 2 := by decide +kernel
set_option maxHeartbeats 4000000 in
theorem met_isBut (l : Launch) (G : GP) (ta : Nat → Nat) (d : Nat) {post : Bool → TS → Prop} {z0 : TS} {i1 : Int32} {i2 : Int32} (hw : wp_isBut post z0 i1 i2) : Met l yX5_isBut (ws_ yX5_isBut cX5_isBut 4 (some .boolean)) (rmd (d + 1) 0 0) (tPc G ta z0 [.ref (ta 73), .int (i1), .int (i2)]) (tQz G ta post) 0 0 (TA ta) := by
  unfold wp_isBut at hw
  refine tw_met (by decide) rfl (Nat.le_of_ble_eq_true rfl) ?_
  intro p e s m args below meth c ls E hr hlocks hK hT hS hl
  replace hl : lv_has ls 4 [(0, .ref (ta 73)), (1, .int (i1)), (2, .int (i2))] := hl
  refine lv_iconst (v := nI 0) E.1 E.2.1 dX5_isBut_0 rfl ?_
  refine lv_istore_n (lv' := [(3, .int (nI 0)), (0, .ref (ta 73)), (1, .int (i1)), (2, .int (i2))]) E.1 E.2.1 dX5_isBut_1 rfl hl (Nat.le_of_ble_eq_true rfl) rfl (fun ls hl => ?_)
  obtain ⟨I1, ⟨n7, hi14⟩, hb13⟩ := hw
  have L5 : ∀ (n2 : Nat) (z3 : TS) (x6 : Int32), I1 n2 z3 x6 → ∀ (H : Heap) (locs : List Loc) (ls : Array Slot), TW G ta z3 H → va_S (TA ta) s.heap H locs → lv_has ls 4 [(0, .ref (ta 73)), (1, .int (i1)), (2, .int (i2)), (3, .int (x6))] → W p l e (rmd (d + 1) 0 0) s m args below meth c H locs 0 0 (MQ below (tQz G ta post) args s 0 0 (TA ta)) (F0 m 2 ls []) := by
    intro n2
    induction n2 using Nat.strongRecOn with
    | _ n2 ih4 =>
      intro z3 x6 hw H locs ls hT hS hl
      replace hw := hb13 n2 z3 x6 hw
      refine lv_iload_n E.1 E.2.1 dX5_isBut_2 rfl (lv_at hl 3 rfl) ?_
      refine lv_aload_n E.1 E.2.1 dX5_isBut_3 rfl (lv_at hl 0 rfl) ?_
      refine tw_get E hK hT 15 (Nat.le_of_ble_eq_true rfl) q1825 rfl (v := .ref (ta 15)) rfl dX5_isBut_4 ?_
      refine lv_iload_n E.1 E.2.1 dX5_isBut_7 rfl (lv_at hl 1 rfl) ?_
      obtain ⟨hin, hw⟩ := hw
      refine tw_iald E hK hT 15 rfl hin dX5_isBut_8 ?_
      refine lv_icmp_ge (tgt := 47) E.1 E.2.1 dX5_isBut_9 (by decide) (fun c8 => ?_) (fun c8 => ?_)
      · replace hw := hw.1 (c8)
        refine lv_iconst (v := nI 0) E.1 E.2.1 dX5_isBut_47 rfl ?_
        exact tw_iretz (b := false) E hr hlocks hT hS rfl hw dX5_isBut_48
      · replace hw := hw.2 (c8)
        refine lv_iload_n E.1 E.2.1 dX5_isBut_12 rfl (lv_at hl 2 rfl) ?_
        refine lv_aload_n E.1 E.2.1 dX5_isBut_13 rfl (lv_at hl 0 rfl) ?_
        refine tw_get E hK hT 16 (Nat.le_of_ble_eq_true rfl) q1826 rfl (v := .ref (ta 16)) rfl dX5_isBut_14 ?_
        refine lv_iconst (v := nI 3) E.1 E.2.1 dX5_isBut_17 rfl ?_
        refine lv_iload_n E.1 E.2.1 dX5_isBut_18 rfl (lv_at hl 1 rfl) ?_
        refine lv_imul E.1 E.2.1 dX5_isBut_19 ?_
        refine lv_iload_n E.1 E.2.1 dX5_isBut_20 rfl (lv_at hl 3 rfl) ?_
        refine lv_iadd E.1 E.2.1 dX5_isBut_21 ?_
        obtain ⟨hin, hw⟩ := hw
        refine tw_iald E hK hT 16 rfl hin dX5_isBut_22 ?_
        refine lv_aload_n E.1 E.2.1 dX5_isBut_23 rfl (lv_at hl 0 rfl) ?_
        refine tw_get E hK hT 17 (Nat.le_of_ble_eq_true rfl) q1827 rfl (v := .ref (ta 17)) rfl dX5_isBut_24 ?_
        refine lv_iconst (v := nI 3) E.1 E.2.1 dX5_isBut_27 rfl ?_
        refine lv_iload_n E.1 E.2.1 dX5_isBut_28 rfl (lv_at hl 1 rfl) ?_
        refine lv_imul E.1 E.2.1 dX5_isBut_29 ?_
        refine lv_iload_n E.1 E.2.1 dX5_isBut_30 rfl (lv_at hl 3 rfl) ?_
        refine lv_iadd E.1 E.2.1 dX5_isBut_31 ?_
        obtain ⟨hin, hw⟩ := hw
        refine tw_iald E hK hT 17 rfl hin dX5_isBut_32 ?_
        refine tw_callSz E hK hT hS (As := [.int (i2), .int (sf z3 16 (((nI 3) * i1) + x6).toNatClampNeg), .int (sf z3 17 (((nI 3) * i1) + x6).toNatClampNeg)]) (rest := []) (met_within l G ta (d) hw) (va_cwS 3 E.2.2.2.2 (lw_S q2048 q2049 q128 q2050) rfl rfl rfl hs_within (rm_ok (by omega) (by decide))) rfl rfl hl.1 (Nat.le_of_ble_eq_true rfl) dX5_isBut_33 (fun b10 z9 H locs hw hT hS => ?_)
        refine lv_if_eq (tgt := 41) E.1 E.2.1 dX5_isBut_36 (by decide) (fun c11 => ?_) (fun c11 => ?_)
        · replace hw := hw.1 (bi_z c11)
          refine lv_iinc (k := 3) (v := x6 + nI 1) (lv' := [(3, .int (x6 + nI 1)), (0, .ref (ta 73)), (1, .int (i1)), (2, .int (i2))]) E.1 E.2.1 dX5_isBut_41 hl rfl rfl (Nat.le_of_ble_eq_true rfl) rfl (fun ls hl => ?_)
          refine lv_goto (tgt := 2) E.1 E.2.1 dX5_isBut_44 (by decide) ?_
          obtain ⟨n12, hnn12, hin12⟩ := hw
          exact ih4 n12 hnn12 _ _ hin12 _ _ _ hT hS (lv_sub hl [1, 2, 3, 0] rfl)
        · replace hw := hw.2 (bi_n c11)
          refine lv_iconst (v := nI 1) E.1 E.2.1 dX5_isBut_39 rfl ?_
          exact tw_iretz (b := true) E hr hlocks hT hS rfl hw dX5_isBut_40
  exact L5 n7 _ _ hi14 _ _ _ hT hS (lv_sub hl [1, 2, 3, 0] rfl)
/-- partnerFor(II)I -/
def wp_partnerFor (post : Int32 → TS → Prop) (z0 : TS) (i1 : Int32) (i2 : Int32) : Prop := ∃ I1 : Nat → TS → Int32 → Prop, (∃ n7, I1 n7 z0 (nI 0)) ∧ ∀ (n2 : Nat) (z3 : TS) (x6 : Int32), I1 n2 z3 x6 → wp_partners (fun r9 z8 => (r9 ≤ x6 → post ((-1)) z8) ∧ (¬ r9 ≤ x6 → vp_in (((nI 10) * i1) + x6) 30 ∧ vp_in (((nI 10) * i1) + x6) 30 ∧ wp_within (fun b12 z11 => (b12 = false → ∃ n14, n14 < n2 ∧ I1 n14 z11 (x6 + nI 1)) ∧ (b12 = true → post x6 z11)) z8 i2 (sf z8 12 (((nI 10) * i1) + x6).toNatClampNeg) (sf z8 13 (((nI 10) * i1) + x6).toNatClampNeg))) z3 i1
theorem hd_partnerFor : yX5_partnerFor.cls = RX5 ∧ yX5_partnerFor.cls ≠ "java/lang/invoke/MethodHandle" ∧ yX5_partnerFor.cls ≠ "java/lang/invoke/VarHandle" ∧ (parseMethodDescriptor yX5_partnerFor.desc).map (fun d => d.parameters.length) = some 2 := by decide +kernel
set_option maxHeartbeats 4000000 in
theorem met_partnerFor (l : Launch) (G : GP) (ta : Nat → Nat) (d : Nat) {post : Int32 → TS → Prop} {z0 : TS} {i1 : Int32} {i2 : Int32} (hw : wp_partnerFor post z0 i1 i2) : Met l yX5_partnerFor (ws_ yX5_partnerFor cX5_partnerFor 4 (some .int)) (rmd (d + 1) 0 0) (tPc G ta z0 [.ref (ta 73), .int (i1), .int (i2)]) (tQi G ta post) 0 0 (TA ta) := by
  unfold wp_partnerFor at hw
  refine tw_met (by decide) rfl (Nat.le_of_ble_eq_true rfl) ?_
  intro p e s m args below meth c ls E hr hlocks hK hT hS hl
  replace hl : lv_has ls 4 [(0, .ref (ta 73)), (1, .int (i1)), (2, .int (i2))] := hl
  refine lv_iconst (v := nI 0) E.1 E.2.1 dX5_partnerFor_0 rfl ?_
  refine lv_istore_n (lv' := [(3, .int (nI 0)), (0, .ref (ta 73)), (1, .int (i1)), (2, .int (i2))]) E.1 E.2.1 dX5_partnerFor_1 rfl hl (Nat.le_of_ble_eq_true rfl) rfl (fun ls hl => ?_)
  obtain ⟨I1, ⟨n7, hi16⟩, hb15⟩ := hw
  have L5 : ∀ (n2 : Nat) (z3 : TS) (x6 : Int32), I1 n2 z3 x6 → ∀ (H : Heap) (locs : List Loc) (ls : Array Slot), TW G ta z3 H → va_S (TA ta) s.heap H locs → lv_has ls 4 [(0, .ref (ta 73)), (1, .int (i1)), (2, .int (i2)), (3, .int (x6))] → W p l e (rmd (d + 1) 0 0) s m args below meth c H locs 0 0 (MQ below (tQi G ta post) args s 0 0 (TA ta)) (F0 m 2 ls []) := by
    intro n2
    induction n2 using Nat.strongRecOn with
    | _ n2 ih4 =>
      intro z3 x6 hw H locs ls hT hS hl
      replace hw := hb15 n2 z3 x6 hw
      refine lv_iload_n E.1 E.2.1 dX5_partnerFor_2 rfl (lv_at hl 3 rfl) ?_
      refine lv_aload_n E.1 E.2.1 dX5_partnerFor_3 rfl (lv_at hl 0 rfl) ?_
      refine lv_iload_n E.1 E.2.1 dX5_partnerFor_4 rfl (lv_at hl 1 rfl) ?_
      refine tw_callVi E hK hT hS (As := [.int (i1)]) (rest := [.int (x6)]) (met_partners l G ta (d) hw) (cwV 1 E.2.2.2.2 (lw_V q2183 q2185 qs78 q128 q2186) rfl rfl rfl hd_partners (rm_ok (by omega) (by decide))) rfl rfl hl.1 (Nat.le_of_ble_eq_true rfl) dX5_partnerFor_5 (fun r9 z8 H locs hw hT hS => ?_)
      refine lv_icmp_ge (tgt := 48) E.1 E.2.1 dX5_partnerFor_8 (by decide) (fun c10 => ?_) (fun c10 => ?_)
      · replace hw := hw.1 (c10)
        refine lv_iconst (v := (-1)) E.1 E.2.1 dX5_partnerFor_48 rfl ?_
        exact tw_ireti E hr hlocks hT hS hw dX5_partnerFor_49
      · replace hw := hw.2 (c10)
        refine lv_iload_n E.1 E.2.1 dX5_partnerFor_11 rfl (lv_at hl 2 rfl) ?_
        refine lv_aload_n E.1 E.2.1 dX5_partnerFor_12 rfl (lv_at hl 0 rfl) ?_
        refine tw_get E hK hT 12 (Nat.le_of_ble_eq_true rfl) q1822 rfl (v := .ref (ta 12)) rfl dX5_partnerFor_13 ?_
        refine lv_bipush (v := nI 10) E.1 E.2.1 dX5_partnerFor_16 rfl ?_
        refine lv_iload_n E.1 E.2.1 dX5_partnerFor_18 rfl (lv_at hl 1 rfl) ?_
        refine lv_imul E.1 E.2.1 dX5_partnerFor_19 ?_
        refine lv_iload_n E.1 E.2.1 dX5_partnerFor_20 rfl (lv_at hl 3 rfl) ?_
        refine lv_iadd E.1 E.2.1 dX5_partnerFor_21 ?_
        obtain ⟨hin, hw⟩ := hw
        refine tw_iald E hK hT 12 rfl hin dX5_partnerFor_22 ?_
        refine lv_aload_n E.1 E.2.1 dX5_partnerFor_23 rfl (lv_at hl 0 rfl) ?_
        refine tw_get E hK hT 13 (Nat.le_of_ble_eq_true rfl) q1823 rfl (v := .ref (ta 13)) rfl dX5_partnerFor_24 ?_
        refine lv_bipush (v := nI 10) E.1 E.2.1 dX5_partnerFor_27 rfl ?_
        refine lv_iload_n E.1 E.2.1 dX5_partnerFor_29 rfl (lv_at hl 1 rfl) ?_
        refine lv_imul E.1 E.2.1 dX5_partnerFor_30 ?_
        refine lv_iload_n E.1 E.2.1 dX5_partnerFor_31 rfl (lv_at hl 3 rfl) ?_
        refine lv_iadd E.1 E.2.1 dX5_partnerFor_32 ?_
        obtain ⟨hin, hw⟩ := hw
        refine tw_iald E hK hT 13 rfl hin dX5_partnerFor_33 ?_
        refine tw_callSz E hK hT hS (As := [.int (i2), .int (sf z8 12 (((nI 10) * i1) + x6).toNatClampNeg), .int (sf z8 13 (((nI 10) * i1) + x6).toNatClampNeg)]) (rest := []) (met_within l G ta (d) hw) (va_cwS 3 E.2.2.2.2 (lw_S q2048 q2049 q128 q2050) rfl rfl rfl hs_within (rm_ok (by omega) (by decide))) rfl rfl hl.1 (Nat.le_of_ble_eq_true rfl) dX5_partnerFor_34 (fun b12 z11 H locs hw hT hS => ?_)
        refine lv_if_eq (tgt := 42) E.1 E.2.1 dX5_partnerFor_37 (by decide) (fun c13 => ?_) (fun c13 => ?_)
        · replace hw := hw.1 (bi_z c13)
          refine lv_iinc (k := 3) (v := x6 + nI 1) (lv' := [(3, .int (x6 + nI 1)), (0, .ref (ta 73)), (1, .int (i1)), (2, .int (i2))]) E.1 E.2.1 dX5_partnerFor_42 hl rfl rfl (Nat.le_of_ble_eq_true rfl) rfl (fun ls hl => ?_)
          refine lv_goto (tgt := 2) E.1 E.2.1 dX5_partnerFor_45 (by decide) ?_
          obtain ⟨n14, hnn14, hin14⟩ := hw
          exact ih4 n14 hnn14 _ _ hin14 _ _ _ hT hS (lv_sub hl [1, 2, 3, 0] rfl)
        · replace hw := hw.2 (bi_n c13)
          refine lv_iload_n E.1 E.2.1 dX5_partnerFor_40 rfl (lv_at hl 3 rfl) ?_
          exact tw_ireti E hr hlocks hT hS hw dX5_partnerFor_41
  exact L5 n7 _ _ hi16 _ _ _ hT hS (lv_sub hl [1, 2, 3, 0] rfl)
/-- counts(III)Z -/
def wp_counts (post : Bool → TS → Prop) (z0 : TS) (i1 : Int32) (i2 : Int32) (i3 : Int32) : Prop := wp_partnerFor (fun r2 z1 => (r2 < 0 → post false z1) ∧ (¬ r2 < 0 → vp_in (i2) 24 ∧ wp_isBut (fun b5 z4 => (b5 = false → ∃ I7 : Nat → TS → Int32 → Prop, (∃ n13, I7 n13 z4 (nI 0)) ∧ ∀ (n8 : Nat) (z9 : TS) (x12 : Int32), I7 n8 z9 x12 → vp_in (i2) 24 ∧ ((sf z9 38 i2.toNatClampNeg) ≤ x12 → post true z9) ∧ (¬ (sf z9 38 i2.toNatClampNeg) ≤ x12 → vp_in (((nI 8) * i2) + x12) 192 ∧ ∀ x15, x15 = sf z9 39 (((nI 8) * i2) + x12).toNatClampNeg → (x15 = i3 → ∃ n17, n17 < n8 ∧ I7 n17 z9 (x12 + nI 1)) ∧ (¬ x15 = i3 → wp_isBut (fun b19 z18 => (b19 = false → ∃ n21, n21 < n8 ∧ I7 n21 z18 (x12 + nI 1)) ∧ (b19 = true → post false z18)) z9 (((nI 10) * i1) + r2) x15))) ∧ (b5 = true → post false z4)) z1 (((nI 10) * i1) + r2) (sf z1 35 i2.toNatClampNeg))) z0 i1 i3
theorem hd_counts : yX5_counts.cls = RX5 ∧ yX5_counts.cls ≠ "java/lang/invoke/MethodHandle" ∧ yX5_counts.cls ≠ "java/lang/invoke/VarHandle" ∧ (parseMethodDescriptor yX5_counts.desc).map (fun d => d.parameters.length) = some 3 := by decide +kernel
set_option maxHeartbeats 4000000 in
theorem met_counts (l : Launch) (G : GP) (ta : Nat → Nat) (d : Nat) {post : Bool → TS → Prop} {z0 : TS} {i1 : Int32} {i2 : Int32} {i3 : Int32} (hw : wp_counts post z0 i1 i2 i3) : Met l yX5_counts (ws_ yX5_counts cX5_counts 7 (some .boolean)) (rmd (d + 2) 0 0) (tPc G ta z0 [.ref (ta 73), .int (i1), .int (i2), .int (i3)]) (tQz G ta post) 0 0 (TA ta) := by
  unfold wp_counts at hw
  refine tw_met (by decide) rfl (Nat.le_of_ble_eq_true rfl) ?_
  intro p e s m args below meth c ls E hr hlocks hK hT hS hl
  replace hl : lv_has ls 7 [(0, .ref (ta 73)), (1, .int (i1)), (2, .int (i2)), (3, .int (i3))] := hl
  refine lv_aload_n E.1 E.2.1 dX5_counts_0 rfl (lv_at hl 0 rfl) ?_
  refine lv_iload_n E.1 E.2.1 dX5_counts_1 rfl (lv_at hl 1 rfl) ?_
  refine lv_iload_n E.1 E.2.1 dX5_counts_2 rfl (lv_at hl 3 rfl) ?_
  refine tw_callVi E hK hT hS (As := [.int (i1), .int (i3)]) (rest := []) (met_partnerFor l G ta (d) hw) (cwV 2 E.2.2.2.2 (lw_V q2351 q2353 qs110 q128 q2354) rfl rfl rfl hd_partnerFor (rm_ok (by omega) (by decide))) rfl rfl hl.1 (Nat.le_of_ble_eq_true rfl) dX5_counts_3 (fun r2 z1 H locs hw hT hS => ?_)
  refine lv_istore (lv' := [(4, .int (r2)), (0, .ref (ta 73)), (1, .int (i1)), (2, .int (i2)), (3, .int (i3))]) E.1 E.2.1 dX5_counts_6 hl (Nat.le_of_ble_eq_true rfl) rfl (fun ls hl => ?_)
  refine lv_iload E.1 E.2.1 dX5_counts_8 (lv_at hl 0 rfl) ?_
  refine lv_if_lt (tgt := 33) E.1 E.2.1 dX5_counts_10 (by decide) (fun c3 => ?_) (fun c3 => ?_)
  · replace hw := hw.1 (c3)
    refine lv_iconst (v := nI 0) E.1 E.2.1 dX5_counts_33 rfl ?_
    exact tw_iretz (b := false) E hr hlocks hT hS rfl hw dX5_counts_34
  · replace hw := hw.2 (c3)
    refine lv_aload_n E.1 E.2.1 dX5_counts_13 rfl (lv_at hl 1 rfl) ?_
    refine lv_bipush (v := nI 10) E.1 E.2.1 dX5_counts_14 rfl ?_
    refine lv_iload_n E.1 E.2.1 dX5_counts_16 rfl (lv_at hl 2 rfl) ?_
    refine lv_imul E.1 E.2.1 dX5_counts_17 ?_
    refine lv_iload E.1 E.2.1 dX5_counts_18 (lv_at hl 0 rfl) ?_
    refine lv_iadd E.1 E.2.1 dX5_counts_20 ?_
    refine lv_aload_n E.1 E.2.1 dX5_counts_21 rfl (lv_at hl 1 rfl) ?_
    refine tw_get E hK hT 35 (Nat.le_of_ble_eq_true rfl) q1845 rfl (v := .ref (ta 35)) rfl dX5_counts_22 ?_
    refine lv_iload_n E.1 E.2.1 dX5_counts_25 rfl (lv_at hl 3 rfl) ?_
    obtain ⟨hin, hw⟩ := hw
    refine tw_iald E hK hT 35 rfl hin dX5_counts_26 ?_
    refine tw_callVz E hK hT hS (As := [.int (((nI 10) * i1) + r2), .int (sf z1 35 i2.toNatClampNeg)]) (rest := []) (met_isBut l G ta (d) hw) (cwV 2 E.2.2.2.2 (lw_V q2355 q2357 qs111 q128 q2358) rfl rfl rfl hd_isBut (rm_ok (by omega) (by decide))) rfl rfl hl.1 (Nat.le_of_ble_eq_true rfl) dX5_counts_27 (fun b5 z4 H locs hw hT hS => ?_)
    refine lv_if_eq (tgt := 35) E.1 E.2.1 dX5_counts_30 (by decide) (fun c6 => ?_) (fun c6 => ?_)
    · replace hw := hw.1 (bi_z c6)
      refine lv_iconst (v := nI 0) E.1 E.2.1 dX5_counts_35 rfl ?_
      refine lv_istore (lv' := [(5, .int (nI 0)), (4, .int (r2)), (0, .ref (ta 73)), (1, .int (i1)), (2, .int (i2)), (3, .int (i3))]) E.1 E.2.1 dX5_counts_36 hl (Nat.le_of_ble_eq_true rfl) rfl (fun ls hl => ?_)
      obtain ⟨I7, ⟨n13, hi23⟩, hb22⟩ := hw
      have L11 : ∀ (n8 : Nat) (z9 : TS) (x12 : Int32), I7 n8 z9 x12 → ∀ (H : Heap) (locs : List Loc) (ls : Array Slot), TW G ta z9 H → va_S (TA ta) s.heap H locs → lv_has ls 7 [(0, .ref (ta 73)), (1, .int (i1)), (2, .int (i2)), (3, .int (i3)), (4, .int (r2)), (5, .int (x12))] → W p l e (rmd (d + 2) 0 0) s m args below meth c H locs 0 0 (MQ below (tQz G ta post) args s 0 0 (TA ta)) (F0 m 38 ls []) := by
        intro n8
        induction n8 using Nat.strongRecOn with
        | _ n8 ih10 =>
          intro z9 x12 hw H locs ls hT hS hl
          replace hw := hb22 n8 z9 x12 hw
          refine lv_iload E.1 E.2.1 dX5_counts_38 (lv_at hl 5 rfl) ?_
          refine lv_aload_n E.1 E.2.1 dX5_counts_40 rfl (lv_at hl 0 rfl) ?_
          refine tw_get E hK hT 38 (Nat.le_of_ble_eq_true rfl) q1848 rfl (v := .ref (ta 38)) rfl dX5_counts_41 ?_
          refine lv_iload_n E.1 E.2.1 dX5_counts_44 rfl (lv_at hl 2 rfl) ?_
          obtain ⟨hin, hw⟩ := hw
          refine tw_iald E hK hT 38 rfl hin dX5_counts_45 ?_
          refine lv_icmp_ge (tgt := 93) E.1 E.2.1 dX5_counts_46 (by decide) (fun c14 => ?_) (fun c14 => ?_)
          · replace hw := hw.1 (c14)
            refine lv_iconst (v := nI 1) E.1 E.2.1 dX5_counts_93 rfl ?_
            exact tw_iretz (b := true) E hr hlocks hT hS rfl hw dX5_counts_94
          · replace hw := hw.2 (c14)
            refine lv_aload_n E.1 E.2.1 dX5_counts_49 rfl (lv_at hl 0 rfl) ?_
            refine tw_get E hK hT 39 (Nat.le_of_ble_eq_true rfl) q1849 rfl (v := .ref (ta 39)) rfl dX5_counts_50 ?_
            refine lv_bipush (v := nI 8) E.1 E.2.1 dX5_counts_53 rfl ?_
            refine lv_iload_n E.1 E.2.1 dX5_counts_55 rfl (lv_at hl 2 rfl) ?_
            refine lv_imul E.1 E.2.1 dX5_counts_56 ?_
            refine lv_iload E.1 E.2.1 dX5_counts_57 (lv_at hl 5 rfl) ?_
            refine lv_iadd E.1 E.2.1 dX5_counts_59 ?_
            obtain ⟨hin, hw⟩ := hw
            refine tw_iald E hK hT 39 rfl hin dX5_counts_60 ?_
            refine lv_topi (fun x15 ex15 => ?_)
            replace hw := hw x15 ex15
            refine lv_istore (lv' := [(6, .int (x15)), (0, .ref (ta 73)), (1, .int (i1)), (2, .int (i2)), (3, .int (i3)), (4, .int (r2)), (5, .int (x12))]) E.1 E.2.1 dX5_counts_61 hl (Nat.le_of_ble_eq_true rfl) rfl (fun ls hl => ?_)
            refine lv_iload E.1 E.2.1 dX5_counts_63 (lv_at hl 0 rfl) ?_
            refine lv_iload_n E.1 E.2.1 dX5_counts_65 rfl (lv_at hl 4 rfl) ?_
            refine lv_icmp_eq (tgt := 87) E.1 E.2.1 dX5_counts_66 (by decide) (fun c16 => ?_) (fun c16 => ?_)
            · replace hw := hw.1 (c16)
              refine lv_iinc (k := 6) (v := x12 + nI 1) (lv' := [(5, .int (x12 + nI 1)), (6, .int (x15)), (0, .ref (ta 73)), (1, .int (i1)), (2, .int (i2)), (3, .int (i3)), (4, .int (r2))]) E.1 E.2.1 dX5_counts_87 hl rfl rfl (Nat.le_of_ble_eq_true rfl) rfl (fun ls hl => ?_)
              refine lv_goto (tgt := 38) E.1 E.2.1 dX5_counts_90 (by decide) ?_
              obtain ⟨n17, hnn17, hin17⟩ := hw
              exact ih10 n17 hnn17 _ _ hin17 _ _ _ hT hS (lv_sub hl [2, 3, 4, 5, 6, 0] rfl)
            · replace hw := hw.2 (c16)
              refine lv_aload_n E.1 E.2.1 dX5_counts_69 rfl (lv_at hl 1 rfl) ?_
              refine lv_bipush (v := nI 10) E.1 E.2.1 dX5_counts_70 rfl ?_
              refine lv_iload_n E.1 E.2.1 dX5_counts_72 rfl (lv_at hl 2 rfl) ?_
              refine lv_imul E.1 E.2.1 dX5_counts_73 ?_
              refine lv_iload E.1 E.2.1 dX5_counts_74 (lv_at hl 5 rfl) ?_
              refine lv_iadd E.1 E.2.1 dX5_counts_76 ?_
              refine lv_iload E.1 E.2.1 dX5_counts_77 (lv_at hl 0 rfl) ?_
              refine tw_callVz E hK hT hS (As := [.int (((nI 10) * i1) + r2), .int (x15)]) (rest := []) (met_isBut l G ta (d) hw) (cwV 2 E.2.2.2.2 (lw_V q2355 q2357 qs111 q128 q2358) rfl rfl rfl hd_isBut (rm_ok (by omega) (by decide))) rfl rfl hl.1 (Nat.le_of_ble_eq_true rfl) dX5_counts_79 (fun b19 z18 H locs hw hT hS => ?_)
              refine lv_if_eq (tgt := 87) E.1 E.2.1 dX5_counts_82 (by decide) (fun c20 => ?_) (fun c20 => ?_)
              · replace hw := hw.1 (bi_z c20)
                refine lv_iinc (k := 6) (v := x12 + nI 1) (lv' := [(5, .int (x12 + nI 1)), (6, .int (x15)), (0, .ref (ta 73)), (1, .int (i1)), (2, .int (i2)), (3, .int (i3)), (4, .int (r2))]) E.1 E.2.1 dX5_counts_87 hl rfl rfl (Nat.le_of_ble_eq_true rfl) rfl (fun ls hl => ?_)
                refine lv_goto (tgt := 38) E.1 E.2.1 dX5_counts_90 (by decide) ?_
                obtain ⟨n21, hnn21, hin21⟩ := hw
                exact ih10 n21 hnn21 _ _ hin21 _ _ _ hT hS (lv_sub hl [2, 3, 4, 5, 6, 0] rfl)
              · replace hw := hw.2 (bi_n c20)
                refine lv_iconst (v := nI 0) E.1 E.2.1 dX5_counts_85 rfl ?_
                exact tw_iretz (b := false) E hr hlocks hT hS rfl hw dX5_counts_86
      exact L11 n13 _ _ hi23 _ _ _ hT hS (lv_sub hl [2, 3, 4, 5, 1, 0] rfl)
    · replace hw := hw.2 (bi_n c6)
      refine lv_iconst (v := nI 0) E.1 E.2.1 dX5_counts_33 rfl ?_
      exact tw_iretz (b := false) E hr hlocks hT hS rfl hw dX5_counts_34
/-- levelOf(II)I -/
def wp_levelOf (post : Int32 → TS → Prop) (z0 : TS) (i1 : Int32) (i2 : Int32) : Prop := ∃ I1 : Nat → TS → Int32 → Int32 → Prop, (∃ n8, I1 n8 z0 (nI 0) (nI 0)) ∧ ∀ (n2 : Nat) (z3 : TS) (x6 : Int32) (x7 : Int32), I1 n2 z3 x6 x7 → vp_in (i2) 24 ∧ ((sf z3 38 i2.toNatClampNeg) ≤ x7 → post x6 z3) ∧ (¬ (sf z3 38 i2.toNatClampNeg) ≤ x7 → vp_in (((nI 8) * i2) + x7) 192 ∧ ∀ x10, x10 = sf z3 39 (((nI 8) * i2) + x7).toNatClampNeg → wp_counts (fun b12 z11 => (b12 = true → wp_partnerFor (fun r15 z14 => vp_in (((nI 10) * i1) + r15) 30 ∧ ∀ x16, x16 = sf z14 14 (((nI 10) * i1) + r15).toNatClampNeg → (x16 ≤ x6 → ∃ n18, n18 < n2 ∧ I1 n18 z14 x6 (x7 + nI 1)) ∧ (¬ x16 ≤ x6 → ∃ n19, n19 < n2 ∧ I1 n19 z14 x16 (x7 + nI 1))) z11 i1 x10) ∧ (b12 = false → ∃ n20, n20 < n2 ∧ I1 n20 z11 x6 (x7 + nI 1))) z3 i1 i2 x10)
theorem hd_levelOf : yX5_levelOf.cls = RX5 ∧ yX5_levelOf.cls ≠ "java/lang/invoke/MethodHandle" ∧ yX5_levelOf.cls ≠ "java/lang/invoke/VarHandle" ∧ (parseMethodDescriptor yX5_levelOf.desc).map (fun d => d.parameters.length) = some 2 := by decide +kernel
set_option maxHeartbeats 4000000 in
theorem met_levelOf (l : Launch) (G : GP) (ta : Nat → Nat) (d : Nat) {post : Int32 → TS → Prop} {z0 : TS} {i1 : Int32} {i2 : Int32} (hw : wp_levelOf post z0 i1 i2) : Met l yX5_levelOf (ws_ yX5_levelOf cX5_levelOf 7 (some .int)) (rmd (d + 3) 0 0) (tPc G ta z0 [.ref (ta 73), .int (i1), .int (i2)]) (tQi G ta post) 0 0 (TA ta) := by
  unfold wp_levelOf at hw
  refine tw_met (by decide) rfl (Nat.le_of_ble_eq_true rfl) ?_
  intro p e s m args below meth c ls E hr hlocks hK hT hS hl
  replace hl : lv_has ls 7 [(0, .ref (ta 73)), (1, .int (i1)), (2, .int (i2))] := hl
  refine lv_iconst (v := nI 0) E.1 E.2.1 dX5_levelOf_0 rfl ?_
  refine lv_istore_n (lv' := [(3, .int (nI 0)), (0, .ref (ta 73)), (1, .int (i1)), (2, .int (i2))]) E.1 E.2.1 dX5_levelOf_1 rfl hl (Nat.le_of_ble_eq_true rfl) rfl (fun ls hl => ?_)
  refine lv_iconst (v := nI 0) E.1 E.2.1 dX5_levelOf_2 rfl ?_
  refine lv_istore (lv' := [(4, .int (nI 0)), (3, .int (nI 0)), (0, .ref (ta 73)), (1, .int (i1)), (2, .int (i2))]) E.1 E.2.1 dX5_levelOf_3 hl (Nat.le_of_ble_eq_true rfl) rfl (fun ls hl => ?_)
  obtain ⟨I1, ⟨n8, hi22⟩, hb21⟩ := hw
  have L5 : ∀ (n2 : Nat) (z3 : TS) (x6 : Int32) (x7 : Int32), I1 n2 z3 x6 x7 → ∀ (H : Heap) (locs : List Loc) (ls : Array Slot), TW G ta z3 H → va_S (TA ta) s.heap H locs → lv_has ls 7 [(0, .ref (ta 73)), (1, .int (i1)), (2, .int (i2)), (3, .int (x6)), (4, .int (x7))] → W p l e (rmd (d + 3) 0 0) s m args below meth c H locs 0 0 (MQ below (tQi G ta post) args s 0 0 (TA ta)) (F0 m 5 ls []) := by
    intro n2
    induction n2 using Nat.strongRecOn with
    | _ n2 ih4 =>
      intro z3 x6 x7 hw H locs ls hT hS hl
      replace hw := hb21 n2 z3 x6 x7 hw
      refine lv_iload E.1 E.2.1 dX5_levelOf_5 (lv_at hl 4 rfl) ?_
      refine lv_aload_n E.1 E.2.1 dX5_levelOf_7 rfl (lv_at hl 0 rfl) ?_
      refine tw_get E hK hT 38 (Nat.le_of_ble_eq_true rfl) q1848 rfl (v := .ref (ta 38)) rfl dX5_levelOf_8 ?_
      refine lv_iload_n E.1 E.2.1 dX5_levelOf_11 rfl (lv_at hl 2 rfl) ?_
      obtain ⟨hin, hw⟩ := hw
      refine tw_iald E hK hT 38 rfl hin dX5_levelOf_12 ?_
      refine lv_icmp_ge (tgt := 78) E.1 E.2.1 dX5_levelOf_13 (by decide) (fun c9 => ?_) (fun c9 => ?_)
      · replace hw := hw.1 (c9)
        refine lv_iload_n E.1 E.2.1 dX5_levelOf_78 rfl (lv_at hl 3 rfl) ?_
        exact tw_ireti E hr hlocks hT hS hw dX5_levelOf_79
      · replace hw := hw.2 (c9)
        refine lv_aload_n E.1 E.2.1 dX5_levelOf_16 rfl (lv_at hl 0 rfl) ?_
        refine tw_get E hK hT 39 (Nat.le_of_ble_eq_true rfl) q1849 rfl (v := .ref (ta 39)) rfl dX5_levelOf_17 ?_
        refine lv_bipush (v := nI 8) E.1 E.2.1 dX5_levelOf_20 rfl ?_
        refine lv_iload_n E.1 E.2.1 dX5_levelOf_22 rfl (lv_at hl 2 rfl) ?_
        refine lv_imul E.1 E.2.1 dX5_levelOf_23 ?_
        refine lv_iload E.1 E.2.1 dX5_levelOf_24 (lv_at hl 4 rfl) ?_
        refine lv_iadd E.1 E.2.1 dX5_levelOf_26 ?_
        obtain ⟨hin, hw⟩ := hw
        refine tw_iald E hK hT 39 rfl hin dX5_levelOf_27 ?_
        refine lv_topi (fun x10 ex10 => ?_)
        replace hw := hw x10 ex10
        refine lv_istore (lv' := [(5, .int (x10)), (0, .ref (ta 73)), (1, .int (i1)), (2, .int (i2)), (3, .int (x6)), (4, .int (x7))]) E.1 E.2.1 dX5_levelOf_28 hl (Nat.le_of_ble_eq_true rfl) rfl (fun ls hl => ?_)
        refine lv_aload_n E.1 E.2.1 dX5_levelOf_30 rfl (lv_at hl 1 rfl) ?_
        refine lv_iload_n E.1 E.2.1 dX5_levelOf_31 rfl (lv_at hl 2 rfl) ?_
        refine lv_iload_n E.1 E.2.1 dX5_levelOf_32 rfl (lv_at hl 3 rfl) ?_
        refine lv_iload E.1 E.2.1 dX5_levelOf_33 (lv_at hl 0 rfl) ?_
        refine tw_callVz E hK hT hS (As := [.int (i1), .int (i2), .int (x10)]) (rest := []) (met_counts l G ta (d) hw) (cwV 3 E.2.2.2.2 (lw_V q2347 q2349 qs109 q128 q2350) rfl rfl rfl hd_counts (rm_ok (by omega) (by decide))) rfl rfl hl.1 (Nat.le_of_ble_eq_true rfl) dX5_levelOf_35 (fun b12 z11 H locs hw hT hS => ?_)
        refine lv_if_ne (tgt := 44) E.1 E.2.1 dX5_levelOf_38 (by decide) (fun c13 => ?_) (fun c13 => ?_)
        · replace hw := hw.1 (bi_n c13)
          refine lv_aload_n E.1 E.2.1 dX5_levelOf_44 rfl (lv_at hl 1 rfl) ?_
          refine tw_get E hK hT 14 (Nat.le_of_ble_eq_true rfl) q1824 rfl (v := .ref (ta 14)) rfl dX5_levelOf_45 ?_
          refine lv_bipush (v := nI 10) E.1 E.2.1 dX5_levelOf_48 rfl ?_
          refine lv_iload_n E.1 E.2.1 dX5_levelOf_50 rfl (lv_at hl 2 rfl) ?_
          refine lv_imul E.1 E.2.1 dX5_levelOf_51 ?_
          refine lv_aload_n E.1 E.2.1 dX5_levelOf_52 rfl (lv_at hl 1 rfl) ?_
          refine lv_iload_n E.1 E.2.1 dX5_levelOf_53 rfl (lv_at hl 2 rfl) ?_
          refine lv_iload E.1 E.2.1 dX5_levelOf_54 (lv_at hl 0 rfl) ?_
          refine tw_callVi E hK hT hS (As := [.int (i1), .int (x10)]) (rest := [.int ((nI 10) * i1), .ref (ta 14)]) (met_partnerFor l G ta (d + 1) hw) (cwV 2 E.2.2.2.2 (lw_V q2351 q2353 qs110 q128 q2354) rfl rfl rfl hd_partnerFor (rm_ok (by omega) (by decide))) rfl rfl hl.1 (Nat.le_of_ble_eq_true rfl) dX5_levelOf_56 (fun r15 z14 H locs hw hT hS => ?_)
          refine lv_iadd E.1 E.2.1 dX5_levelOf_59 ?_
          obtain ⟨hin, hw⟩ := hw
          refine tw_iald E hK hT 14 rfl hin dX5_levelOf_60 ?_
          refine lv_topi (fun x16 ex16 => ?_)
          replace hw := hw x16 ex16
          refine lv_istore (lv' := [(6, .int (x16)), (5, .int (x10)), (0, .ref (ta 73)), (1, .int (i1)), (2, .int (i2)), (3, .int (x6)), (4, .int (x7))]) E.1 E.2.1 dX5_levelOf_61 hl (Nat.le_of_ble_eq_true rfl) rfl (fun ls hl => ?_)
          refine lv_iload E.1 E.2.1 dX5_levelOf_63 (lv_at hl 0 rfl) ?_
          refine lv_iload_n E.1 E.2.1 dX5_levelOf_65 rfl (lv_at hl 5 rfl) ?_
          refine lv_icmp_le (tgt := 72) E.1 E.2.1 dX5_levelOf_66 (by decide) (fun c17 => ?_) (fun c17 => ?_)
          · replace hw := hw.1 (c17)
            refine lv_iinc (k := 6) (v := x7 + nI 1) (lv' := [(4, .int (x7 + nI 1)), (6, .int (x16)), (5, .int (x10)), (0, .ref (ta 73)), (1, .int (i1)), (2, .int (i2)), (3, .int (x6))]) E.1 E.2.1 dX5_levelOf_72 hl rfl rfl (Nat.le_of_ble_eq_true rfl) rfl (fun ls hl => ?_)
            refine lv_goto (tgt := 5) E.1 E.2.1 dX5_levelOf_75 (by decide) ?_
            obtain ⟨n18, hnn18, hin18⟩ := hw
            exact ih4 n18 hnn18 _ _ _ hin18 _ _ _ hT hS (lv_sub hl [3, 4, 5, 6, 0] rfl)
          · replace hw := hw.2 (c17)
            refine lv_iload E.1 E.2.1 dX5_levelOf_69 (lv_at hl 0 rfl) ?_
            refine lv_istore_n (lv' := [(3, .int (x16)), (6, .int (x16)), (5, .int (x10)), (0, .ref (ta 73)), (1, .int (i1)), (2, .int (i2)), (4, .int (x7))]) E.1 E.2.1 dX5_levelOf_71 rfl hl (Nat.le_of_ble_eq_true rfl) rfl (fun ls hl => ?_)
            refine lv_iinc (k := 6) (v := x7 + nI 1) (lv' := [(4, .int (x7 + nI 1)), (3, .int (x16)), (6, .int (x16)), (5, .int (x10)), (0, .ref (ta 73)), (1, .int (i1)), (2, .int (i2))]) E.1 E.2.1 dX5_levelOf_72 hl rfl rfl (Nat.le_of_ble_eq_true rfl) rfl (fun ls hl => ?_)
            refine lv_goto (tgt := 5) E.1 E.2.1 dX5_levelOf_75 (by decide) ?_
            obtain ⟨n19, hnn19, hin19⟩ := hw
            exact ih4 n19 hnn19 _ _ _ hin19 _ _ _ hT hS (lv_sub hl [4, 5, 6, 1, 0] rfl)
        · replace hw := hw.2 (bi_z c13)
          refine lv_goto (tgt := 72) E.1 E.2.1 dX5_levelOf_41 (by decide) ?_
          refine lv_iinc (k := 5) (v := x7 + nI 1) (lv' := [(4, .int (x7 + nI 1)), (5, .int (x10)), (0, .ref (ta 73)), (1, .int (i1)), (2, .int (i2)), (3, .int (x6))]) E.1 E.2.1 dX5_levelOf_72 hl rfl rfl (Nat.le_of_ble_eq_true rfl) rfl (fun ls hl => ?_)
          refine lv_goto (tgt := 5) E.1 E.2.1 dX5_levelOf_75 (by decide) ?_
          obtain ⟨n20, hnn20, hin20⟩ := hw
          exact ih4 n20 hnn20 _ _ _ hin20 _ _ _ hT hS (lv_sub hl [2, 3, 4, 5, 0] rfl)
  exact L5 n8 _ _ _ hi22 _ _ _ hT hS (lv_sub hl [2, 3, 4, 1, 0] rfl)
/-- topOf(II)I -/
def wp_topOf (post : Int32 → TS → Prop) (z0 : TS) (i1 : Int32) (i2 : Int32) : Prop := ∃ I1 : Nat → TS → Int32 → Int32 → Prop, (∃ n8, I1 n8 z0 (nI 0) (nI 0)) ∧ ∀ (n2 : Nat) (z3 : TS) (x6 : Int32) (x7 : Int32), I1 n2 z3 x6 x7 → vp_in (i2) 24 ∧ ((sf z3 40 i2.toNatClampNeg) ≤ x7 → post x6 z3) ∧ (¬ (sf z3 40 i2.toNatClampNeg) ≤ x7 → ∃ I10 : Nat → TS → Int32 → Prop, (∃ n16, I10 n16 z3 (nI 0)) ∧ ∀ (n11 : Nat) (z12 : TS) (x15 : Int32), I10 n11 z12 x15 → ∃ J17 : TS → Int32 → Prop, (∀ (z19 : TS) (x20 : Int32), J17 z19 x20 → wp_ranks (fun r22 z21 => (r22 ≤ x20 → ∃ n24, n24 < n2 ∧ I1 n24 z21 x6 (x7 + nI 1)) ∧ (¬ r22 ≤ x20 → vp_in (((nI 10) * i1) + x20) 30 ∧ ((sf z21 11 (((nI 10) * i1) + x20).toNatClampNeg) ≤ x6 → ∃ n26, n26 < n2 ∧ I1 n26 z21 x6 (x7 + nI 1)) ∧ (¬ (sf z21 11 (((nI 10) * i1) + x20).toNatClampNeg) ≤ x6 → vp_in (((nI 10) * i1) + x20) 30 ∧ ∀ x27, x27 = sf z21 11 (((nI 10) * i1) + x20).toNatClampNeg → ∃ n28, n28 < n2 ∧ I1 n28 z21 x27 (x7 + nI 1)))) z19 i1) ∧ (wp_ranks (fun r30 z29 => (r30 ≤ x15 → J17 z29 x15) ∧ (¬ r30 ≤ x15 → vp_in (((nI 6) * i2) + x7) 144 ∧ vp_in (((nI 10) * i1) + x15) 30 ∧ vp_in (((nI 10) * i1) + x15) 30 ∧ wp_within (fun b33 z32 => (b33 = true → J17 z32 x15) ∧ (b33 = false → ∃ n35, n35 < n11 ∧ I10 n35 z32 (x15 + nI 1))) z29 (sf z29 41 (((nI 6) * i2) + x7).toNatClampNeg) (sf z29 9 (((nI 10) * i1) + x15).toNatClampNeg) (sf z29 10 (((nI 10) * i1) + x15).toNatClampNeg))) z12 i1))
theorem hd_topOf : yX5_topOf.cls = RX5 ∧ yX5_topOf.cls ≠ "java/lang/invoke/MethodHandle" ∧ yX5_topOf.cls ≠ "java/lang/invoke/VarHandle" ∧ (parseMethodDescriptor yX5_topOf.desc).map (fun d => d.parameters.length) = some 2 := by decide +kernel
set_option maxHeartbeats 4000000 in
theorem met_topOf (l : Launch) (G : GP) (ta : Nat → Nat) (d : Nat) {post : Int32 → TS → Prop} {z0 : TS} {i1 : Int32} {i2 : Int32} (hw : wp_topOf post z0 i1 i2) : Met l yX5_topOf (ws_ yX5_topOf cX5_topOf 6 (some .int)) (rmd (d + 1) 0 0) (tPc G ta z0 [.ref (ta 73), .int (i1), .int (i2)]) (tQi G ta post) 0 0 (TA ta) := by
  unfold wp_topOf at hw
  refine tw_met (by decide) rfl (Nat.le_of_ble_eq_true rfl) ?_
  intro p e s m args below meth c ls E hr hlocks hK hT hS hl
  replace hl : lv_has ls 6 [(0, .ref (ta 73)), (1, .int (i1)), (2, .int (i2))] := hl
  refine lv_iconst (v := nI 0) E.1 E.2.1 dX5_topOf_0 rfl ?_
  refine lv_istore_n (lv' := [(3, .int (nI 0)), (0, .ref (ta 73)), (1, .int (i1)), (2, .int (i2))]) E.1 E.2.1 dX5_topOf_1 rfl hl (Nat.le_of_ble_eq_true rfl) rfl (fun ls hl => ?_)
  refine lv_iconst (v := nI 0) E.1 E.2.1 dX5_topOf_2 rfl ?_
  refine lv_istore (lv' := [(4, .int (nI 0)), (3, .int (nI 0)), (0, .ref (ta 73)), (1, .int (i1)), (2, .int (i2))]) E.1 E.2.1 dX5_topOf_3 hl (Nat.le_of_ble_eq_true rfl) rfl (fun ls hl => ?_)
  obtain ⟨I1, ⟨n8, hi40⟩, hb39⟩ := hw
  have L5 : ∀ (n2 : Nat) (z3 : TS) (x6 : Int32) (x7 : Int32), I1 n2 z3 x6 x7 → ∀ (H : Heap) (locs : List Loc) (ls : Array Slot), TW G ta z3 H → va_S (TA ta) s.heap H locs → lv_has ls 6 [(0, .ref (ta 73)), (1, .int (i1)), (2, .int (i2)), (3, .int (x6)), (4, .int (x7))] → W p l e (rmd (d + 1) 0 0) s m args below meth c H locs 0 0 (MQ below (tQi G ta post) args s 0 0 (TA ta)) (F0 m 5 ls []) := by
    intro n2
    induction n2 using Nat.strongRecOn with
    | _ n2 ih4 =>
      intro z3 x6 x7 hw H locs ls hT hS hl
      replace hw := hb39 n2 z3 x6 x7 hw
      refine lv_iload E.1 E.2.1 dX5_topOf_5 (lv_at hl 4 rfl) ?_
      refine lv_aload_n E.1 E.2.1 dX5_topOf_7 rfl (lv_at hl 0 rfl) ?_
      refine tw_get E hK hT 40 (Nat.le_of_ble_eq_true rfl) q1850 rfl (v := .ref (ta 40)) rfl dX5_topOf_8 ?_
      refine lv_iload_n E.1 E.2.1 dX5_topOf_11 rfl (lv_at hl 2 rfl) ?_
      obtain ⟨hin, hw⟩ := hw
      refine tw_iald E hK hT 40 rfl hin dX5_topOf_12 ?_
      refine lv_icmp_ge (tgt := 122) E.1 E.2.1 dX5_topOf_13 (by decide) (fun c9 => ?_) (fun c9 => ?_)
      · replace hw := hw.1 (c9)
        refine lv_iload_n E.1 E.2.1 dX5_topOf_122 rfl (lv_at hl 3 rfl) ?_
        exact tw_ireti E hr hlocks hT hS hw dX5_topOf_123
      · replace hw := hw.2 (c9)
        refine lv_iconst (v := nI 0) E.1 E.2.1 dX5_topOf_16 rfl ?_
        refine lv_istore (lv' := [(5, .int (nI 0)), (0, .ref (ta 73)), (1, .int (i1)), (2, .int (i2)), (3, .int (x6)), (4, .int (x7))]) E.1 E.2.1 dX5_topOf_17 hl (Nat.le_of_ble_eq_true rfl) rfl (fun ls hl => ?_)
        obtain ⟨I10, ⟨n16, hi38⟩, hb37⟩ := hw
        have L14 : ∀ (n11 : Nat) (z12 : TS) (x15 : Int32), I10 n11 z12 x15 → ∀ (H : Heap) (locs : List Loc) (ls : Array Slot), TW G ta z12 H → va_S (TA ta) s.heap H locs → lv_has ls 6 [(0, .ref (ta 73)), (1, .int (i1)), (2, .int (i2)), (3, .int (x6)), (4, .int (x7)), (5, .int (x15))] → W p l e (rmd (d + 1) 0 0) s m args below meth c H locs 0 0 (MQ below (tQi G ta post) args s 0 0 (TA ta)) (F0 m 19 ls []) := by
          intro n11
          induction n11 using Nat.strongRecOn with
          | _ n11 ih13 =>
            intro z12 x15 hw H locs ls hT hS hl
            replace hw := hb37 n11 z12 x15 hw
            obtain ⟨J17, hj36, hw⟩ := hw
            have jh18 : ∀ (z19 : TS) (x20 : Int32), J17 z19 x20 → ∀ (H : Heap) (locs : List Loc) (ls : Array Slot), TW G ta z19 H → va_S (TA ta) s.heap H locs → lv_has ls 6 [(0, .ref (ta 73)), (1, .int (i1)), (2, .int (i2)), (3, .int (x6)), (4, .int (x7)), (5, .int (x20))] → W p l e (rmd (d + 1) 0 0) s m args below meth c H locs 0 0 (MQ below (tQi G ta post) args s 0 0 (TA ta)) (F0 m 77 ls []) := by
              intro z19 x20 hw H locs ls hT hS hl
              replace hw := hj36 z19 x20 hw
              refine lv_iload E.1 E.2.1 dX5_topOf_77 (lv_at hl 5 rfl) ?_
              refine lv_aload_n E.1 E.2.1 dX5_topOf_79 rfl (lv_at hl 0 rfl) ?_
              refine lv_iload_n E.1 E.2.1 dX5_topOf_80 rfl (lv_at hl 1 rfl) ?_
              refine tw_callVi E hK hT hS (As := [.int (i1)]) (rest := [.int (x20)]) (met_ranks l G ta (d) hw) (cwV 1 E.2.2.2.2 (lw_V q2171 q2173 qs75 q128 q2174) rfl rfl rfl hd_ranks (rm_ok (by omega) (by decide))) rfl rfl hl.1 (Nat.le_of_ble_eq_true rfl) dX5_topOf_81 (fun r22 z21 H locs hw hT hS => ?_)
              refine lv_icmp_ge (tgt := 116) E.1 E.2.1 dX5_topOf_84 (by decide) (fun c23 => ?_) (fun c23 => ?_)
              · replace hw := hw.1 (c23)
                refine lv_iinc (k := 4) (v := x7 + nI 1) (lv' := [(4, .int (x7 + nI 1)), (0, .ref (ta 73)), (1, .int (i1)), (2, .int (i2)), (3, .int (x6)), (5, .int (x20))]) E.1 E.2.1 dX5_topOf_116 hl rfl rfl (Nat.le_of_ble_eq_true rfl) rfl (fun ls hl => ?_)
                refine lv_goto (tgt := 5) E.1 E.2.1 dX5_topOf_119 (by decide) ?_
                obtain ⟨n24, hnn24, hin24⟩ := hw
                exact ih4 n24 hnn24 _ _ _ hin24 _ _ _ hT hS (lv_sub hl [1, 2, 3, 4, 0] rfl)
              · replace hw := hw.2 (c23)
                refine lv_aload_n E.1 E.2.1 dX5_topOf_87 rfl (lv_at hl 0 rfl) ?_
                refine tw_get E hK hT 11 (Nat.le_of_ble_eq_true rfl) q1821 rfl (v := .ref (ta 11)) rfl dX5_topOf_88 ?_
                refine lv_bipush (v := nI 10) E.1 E.2.1 dX5_topOf_91 rfl ?_
                refine lv_iload_n E.1 E.2.1 dX5_topOf_93 rfl (lv_at hl 1 rfl) ?_
                refine lv_imul E.1 E.2.1 dX5_topOf_94 ?_
                refine lv_iload E.1 E.2.1 dX5_topOf_95 (lv_at hl 5 rfl) ?_
                refine lv_iadd E.1 E.2.1 dX5_topOf_97 ?_
                obtain ⟨hin, hw⟩ := hw
                refine tw_iald E hK hT 11 rfl hin dX5_topOf_98 ?_
                refine lv_iload_n E.1 E.2.1 dX5_topOf_99 rfl (lv_at hl 3 rfl) ?_
                refine lv_icmp_le (tgt := 116) E.1 E.2.1 dX5_topOf_100 (by decide) (fun c25 => ?_) (fun c25 => ?_)
                · replace hw := hw.1 (c25)
                  refine lv_iinc (k := 4) (v := x7 + nI 1) (lv' := [(4, .int (x7 + nI 1)), (0, .ref (ta 73)), (1, .int (i1)), (2, .int (i2)), (3, .int (x6)), (5, .int (x20))]) E.1 E.2.1 dX5_topOf_116 hl rfl rfl (Nat.le_of_ble_eq_true rfl) rfl (fun ls hl => ?_)
                  refine lv_goto (tgt := 5) E.1 E.2.1 dX5_topOf_119 (by decide) ?_
                  obtain ⟨n26, hnn26, hin26⟩ := hw
                  exact ih4 n26 hnn26 _ _ _ hin26 _ _ _ hT hS (lv_sub hl [1, 2, 3, 4, 0] rfl)
                · replace hw := hw.2 (c25)
                  refine lv_aload_n E.1 E.2.1 dX5_topOf_103 rfl (lv_at hl 0 rfl) ?_
                  refine tw_get E hK hT 11 (Nat.le_of_ble_eq_true rfl) q1821 rfl (v := .ref (ta 11)) rfl dX5_topOf_104 ?_
                  refine lv_bipush (v := nI 10) E.1 E.2.1 dX5_topOf_107 rfl ?_
                  refine lv_iload_n E.1 E.2.1 dX5_topOf_109 rfl (lv_at hl 1 rfl) ?_
                  refine lv_imul E.1 E.2.1 dX5_topOf_110 ?_
                  refine lv_iload E.1 E.2.1 dX5_topOf_111 (lv_at hl 5 rfl) ?_
                  refine lv_iadd E.1 E.2.1 dX5_topOf_113 ?_
                  obtain ⟨hin, hw⟩ := hw
                  refine tw_iald E hK hT 11 rfl hin dX5_topOf_114 ?_
                  refine lv_topi (fun x27 ex27 => ?_)
                  replace hw := hw x27 ex27
                  refine lv_istore_n (lv' := [(3, .int (x27)), (0, .ref (ta 73)), (1, .int (i1)), (2, .int (i2)), (4, .int (x7)), (5, .int (x20))]) E.1 E.2.1 dX5_topOf_115 rfl hl (Nat.le_of_ble_eq_true rfl) rfl (fun ls hl => ?_)
                  refine lv_iinc (k := 4) (v := x7 + nI 1) (lv' := [(4, .int (x7 + nI 1)), (3, .int (x27)), (0, .ref (ta 73)), (1, .int (i1)), (2, .int (i2)), (5, .int (x20))]) E.1 E.2.1 dX5_topOf_116 hl rfl rfl (Nat.le_of_ble_eq_true rfl) rfl (fun ls hl => ?_)
                  refine lv_goto (tgt := 5) E.1 E.2.1 dX5_topOf_119 (by decide) ?_
                  obtain ⟨n28, hnn28, hin28⟩ := hw
                  exact ih4 n28 hnn28 _ _ _ hin28 _ _ _ hT hS (lv_sub hl [2, 3, 4, 1, 0] rfl)
            refine lv_iload E.1 E.2.1 dX5_topOf_19 (lv_at hl 5 rfl) ?_
            refine lv_aload_n E.1 E.2.1 dX5_topOf_21 rfl (lv_at hl 0 rfl) ?_
            refine lv_iload_n E.1 E.2.1 dX5_topOf_22 rfl (lv_at hl 1 rfl) ?_
            refine tw_callVi E hK hT hS (As := [.int (i1)]) (rest := [.int (x15)]) (met_ranks l G ta (d) hw) (cwV 1 E.2.2.2.2 (lw_V q2171 q2173 qs75 q128 q2174) rfl rfl rfl hd_ranks (rm_ok (by omega) (by decide))) rfl rfl hl.1 (Nat.le_of_ble_eq_true rfl) dX5_topOf_23 (fun r30 z29 H locs hw hT hS => ?_)
            refine lv_icmp_ge (tgt := 77) E.1 E.2.1 dX5_topOf_26 (by decide) (fun c31 => ?_) (fun c31 => ?_)
            · replace hw := hw.1 (c31)
              exact jh18 _ _ hw _ _ _ hT hS (lv_sub hl [0, 1, 2, 3, 4, 5] rfl)
            · replace hw := hw.2 (c31)
              refine lv_aload_n E.1 E.2.1 dX5_topOf_29 rfl (lv_at hl 0 rfl) ?_
              refine tw_get E hK hT 41 (Nat.le_of_ble_eq_true rfl) q1851 rfl (v := .ref (ta 41)) rfl dX5_topOf_30 ?_
              refine lv_bipush (v := nI 6) E.1 E.2.1 dX5_topOf_33 rfl ?_
              refine lv_iload_n E.1 E.2.1 dX5_topOf_35 rfl (lv_at hl 2 rfl) ?_
              refine lv_imul E.1 E.2.1 dX5_topOf_36 ?_
              refine lv_iload E.1 E.2.1 dX5_topOf_37 (lv_at hl 4 rfl) ?_
              refine lv_iadd E.1 E.2.1 dX5_topOf_39 ?_
              obtain ⟨hin, hw⟩ := hw
              refine tw_iald E hK hT 41 rfl hin dX5_topOf_40 ?_
              refine lv_aload_n E.1 E.2.1 dX5_topOf_41 rfl (lv_at hl 0 rfl) ?_
              refine tw_get E hK hT 9 (Nat.le_of_ble_eq_true rfl) q1819 rfl (v := .ref (ta 9)) rfl dX5_topOf_42 ?_
              refine lv_bipush (v := nI 10) E.1 E.2.1 dX5_topOf_45 rfl ?_
              refine lv_iload_n E.1 E.2.1 dX5_topOf_47 rfl (lv_at hl 1 rfl) ?_
              refine lv_imul E.1 E.2.1 dX5_topOf_48 ?_
              refine lv_iload E.1 E.2.1 dX5_topOf_49 (lv_at hl 5 rfl) ?_
              refine lv_iadd E.1 E.2.1 dX5_topOf_51 ?_
              obtain ⟨hin, hw⟩ := hw
              refine tw_iald E hK hT 9 rfl hin dX5_topOf_52 ?_
              refine lv_aload_n E.1 E.2.1 dX5_topOf_53 rfl (lv_at hl 0 rfl) ?_
              refine tw_get E hK hT 10 (Nat.le_of_ble_eq_true rfl) q1820 rfl (v := .ref (ta 10)) rfl dX5_topOf_54 ?_
              refine lv_bipush (v := nI 10) E.1 E.2.1 dX5_topOf_57 rfl ?_
              refine lv_iload_n E.1 E.2.1 dX5_topOf_59 rfl (lv_at hl 1 rfl) ?_
              refine lv_imul E.1 E.2.1 dX5_topOf_60 ?_
              refine lv_iload E.1 E.2.1 dX5_topOf_61 (lv_at hl 5 rfl) ?_
              refine lv_iadd E.1 E.2.1 dX5_topOf_63 ?_
              obtain ⟨hin, hw⟩ := hw
              refine tw_iald E hK hT 10 rfl hin dX5_topOf_64 ?_
              refine tw_callSz E hK hT hS (As := [.int (sf z29 41 (((nI 6) * i2) + x7).toNatClampNeg), .int (sf z29 9 (((nI 10) * i1) + x15).toNatClampNeg), .int (sf z29 10 (((nI 10) * i1) + x15).toNatClampNeg)]) (rest := []) (met_within l G ta (d) hw) (va_cwS 3 E.2.2.2.2 (lw_S q2048 q2049 q128 q2050) rfl rfl rfl hs_within (rm_ok (by omega) (by decide))) rfl rfl hl.1 (Nat.le_of_ble_eq_true rfl) dX5_topOf_65 (fun b33 z32 H locs hw hT hS => ?_)
              refine lv_if_ne (tgt := 77) E.1 E.2.1 dX5_topOf_68 (by decide) (fun c34 => ?_) (fun c34 => ?_)
              · replace hw := hw.1 (bi_n c34)
                exact jh18 _ _ hw _ _ _ hT hS (lv_sub hl [0, 1, 2, 3, 4, 5] rfl)
              · replace hw := hw.2 (bi_z c34)
                refine lv_iinc (k := 5) (v := x15 + nI 1) (lv' := [(5, .int (x15 + nI 1)), (0, .ref (ta 73)), (1, .int (i1)), (2, .int (i2)), (3, .int (x6)), (4, .int (x7))]) E.1 E.2.1 dX5_topOf_71 hl rfl rfl (Nat.le_of_ble_eq_true rfl) rfl (fun ls hl => ?_)
                refine lv_goto (tgt := 19) E.1 E.2.1 dX5_topOf_74 (by decide) ?_
                obtain ⟨n35, hnn35, hin35⟩ := hw
                exact ih13 n35 hnn35 _ _ hin35 _ _ _ hT hS (lv_sub hl [1, 2, 3, 4, 5, 0] rfl)
        exact L14 n16 _ _ hi38 _ _ _ hT hS (lv_sub hl [1, 2, 3, 4, 5, 0] rfl)
  exact L5 n8 _ _ _ hi40 _ _ _ hT hS (lv_sub hl [2, 3, 4, 1, 0] rfl)
/-- leafFor(II)I -/
def wp_leafFor (post : Int32 → TS → Prop) (z0 : TS) (i1 : Int32) (i2 : Int32) : Prop := ∀ z1, z1 = ux z0 65 (nI 0) → wp_chapterFor (fun r3 z2 => (0 ≤ r3 → wp_topOf (fun r6 z5 => ∀ z7, z7 = ux z5 62 r6 → wp_levelOf (fun r9 z8 => ∀ z10, z10 = ux z8 63 r9 → vp_in (((nI 6) * i1) + r3) 18 ∧ ∀ x11, x11 = sf z10 8 (((nI 6) * i1) + r3).toNatClampNeg → ∃ I12 : Nat → TS → Int32 → Prop, (∃ n18, I12 n18 z10 x11) ∧ ∀ (n13 : Nat) (z14 : TS) (x17 : Int32), I12 n13 z14 x17 → vp_in (((nI 40) * i1) + x17) 120 ∧ (0 ≤ (sf z14 20 (((nI 40) * i1) + x17).toNatClampNeg) → post x17 z14) ∧ (¬ 0 ≤ (sf z14 20 (((nI 40) * i1) + x17).toNatClampNeg) → ∃ J20 : TS → Bool → Bool → Int32 → Prop, (∀ (z22 : TS) (b23 : Bool) (b24 : Bool) (x25 : Int32), J20 z22 b23 b24 x25 → vp_in (x25) 40 ∧ ∀ z26, z26 = uf z22 64 x25.toNatClampNeg (bi b24) → ∀ z27, z27 = ux z26 65 ((sx z26 65) + (nI 1)) → (b23 = false → vp_in (((nI 40) * i1) + x17) 120 ∧ ∀ x29, x29 = sf z27 23 (((nI 40) * i1) + x17).toNatClampNeg → ∃ n30, n30 < n13 ∧ I12 n30 z27 x29) ∧ (b23 = true → vp_in (((nI 40) * i1) + x17) 120 ∧ ∀ x31, x31 = sf z27 22 (((nI 40) * i1) + x17).toNatClampNeg → ∃ n32, n32 < n13 ∧ I12 n32 z27 x31)) ∧ (vp_in (((nI 40) * i1) + x17) 120 ∧ wp_isSo d_isSo (fun b34 z33 => (b34 = false → J20 z33 b34 false (sx z33 65)) ∧ (b34 = true → J20 z33 b34 true (sx z33 65))) z14 i1 i2 (sf z14 21 (((nI 40) * i1) + x17).toNatClampNeg)))) z7 i1 i2) z2 i1 i2) ∧ (¬ 0 ≤ r3 → post ((-1)) z2)) z1 i1 i2
theorem hd_leafFor : yX5_leafFor.cls = RX5 ∧ yX5_leafFor.cls ≠ "java/lang/invoke/MethodHandle" ∧ yX5_leafFor.cls ≠ "java/lang/invoke/VarHandle" ∧ (parseMethodDescriptor yX5_leafFor.desc).map (fun d => d.parameters.length) = some 2 := by decide +kernel
set_option maxHeartbeats 4000000 in
theorem met_leafFor (l : Launch) (G : GP) (ta : Nat → Nat) (d : Nat) {post : Int32 → TS → Prop} {z0 : TS} {i1 : Int32} {i2 : Int32} (hw : wp_leafFor post z0 i1 i2) : Met l yX5_leafFor (ws_ yX5_leafFor cX5_leafFor 6 (some .int)) (rmd (d + 403) 0 0) (tPc G ta z0 [.ref (ta 73), .int (i1), .int (i2)]) (tQi G ta post) 0 0 (TA ta) := by
  have hD_isSo : d_isSo = 401 := rfl
  unfold wp_leafFor at hw
  refine tw_met (by decide) rfl (Nat.le_of_ble_eq_true rfl) ?_
  intro p e s m args below meth c ls E hr hlocks hK hT hS hl
  replace hl : lv_has ls 6 [(0, .ref (ta 73)), (1, .int (i1)), (2, .int (i2))] := hl
  refine lv_aload_n E.1 E.2.1 dX5_leafFor_0 rfl (lv_at hl 0 rfl) ?_
  refine lv_iconst (v := nI 0) E.1 E.2.1 dX5_leafFor_1 rfl ?_
  refine tw_puti E hK hT hS 65 (Nat.le_of_ble_eq_true rfl) q1875 rfl rfl rfl rfl dX5_leafFor_2 (fun H locs hT hS => ?_)
  obtain ⟨z1, ez1⟩ : ∃ y, y = ux z0 65 (nI 0) := ⟨_, rfl⟩
  rw [← ez1] at hT
  replace hw := hw z1 ez1
  refine lv_aload_n E.1 E.2.1 dX5_leafFor_5 rfl (lv_at hl 0 rfl) ?_
  refine lv_iload_n E.1 E.2.1 dX5_leafFor_6 rfl (lv_at hl 1 rfl) ?_
  refine lv_iload_n E.1 E.2.1 dX5_leafFor_7 rfl (lv_at hl 2 rfl) ?_
  refine tw_callVi E hK hT hS (As := [.int (i1), .int (i2)]) (rest := []) (met_chapterFor l G ta (d + 401) hw) (cwV 2 E.2.2.2.2 (lw_V q2335 q2337 qs106 q128 q2338) rfl rfl rfl hd_chapterFor (rm_ok (by omega) (by decide))) rfl rfl hl.1 (Nat.le_of_ble_eq_true rfl) dX5_leafFor_8 (fun r3 z2 H locs hw hT hS => ?_)
  refine lv_istore_n (lv' := [(3, .int (r3)), (0, .ref (ta 73)), (1, .int (i1)), (2, .int (i2))]) E.1 E.2.1 dX5_leafFor_11 rfl hl (Nat.le_of_ble_eq_true rfl) rfl (fun ls hl => ?_)
  refine lv_iload_n E.1 E.2.1 dX5_leafFor_12 rfl (lv_at hl 0 rfl) ?_
  refine lv_if_ge (tgt := 18) E.1 E.2.1 dX5_leafFor_13 (by decide) (fun c4 => ?_) (fun c4 => ?_)
  · replace hw := hw.1 (c4)
    refine lv_aload_n E.1 E.2.1 dX5_leafFor_18 rfl (lv_at hl 1 rfl) ?_
    refine lv_aload_n E.1 E.2.1 dX5_leafFor_19 rfl (lv_at hl 1 rfl) ?_
    refine lv_iload_n E.1 E.2.1 dX5_leafFor_20 rfl (lv_at hl 2 rfl) ?_
    refine lv_iload_n E.1 E.2.1 dX5_leafFor_21 rfl (lv_at hl 3 rfl) ?_
    refine tw_callVi E hK hT hS (As := [.int (i1), .int (i2)]) (rest := [.ref (ta 73)]) (met_topOf l G ta (d + 401) hw) (cwV 2 E.2.2.2.2 (lw_V q2339 q2341 qs107 q128 q2342) rfl rfl rfl hd_topOf (rm_ok (by omega) (by decide))) rfl rfl hl.1 (Nat.le_of_ble_eq_true rfl) dX5_leafFor_22 (fun r6 z5 H locs hw hT hS => ?_)
    refine tw_puti E hK hT hS 62 (Nat.le_of_ble_eq_true rfl) q1872 rfl rfl rfl rfl dX5_leafFor_25 (fun H locs hT hS => ?_)
    obtain ⟨z7, ez7⟩ : ∃ y, y = ux z5 62 r6 := ⟨_, rfl⟩
    rw [← ez7] at hT
    replace hw := hw z7 ez7
    refine lv_aload_n E.1 E.2.1 dX5_leafFor_28 rfl (lv_at hl 1 rfl) ?_
    refine lv_aload_n E.1 E.2.1 dX5_leafFor_29 rfl (lv_at hl 1 rfl) ?_
    refine lv_iload_n E.1 E.2.1 dX5_leafFor_30 rfl (lv_at hl 2 rfl) ?_
    refine lv_iload_n E.1 E.2.1 dX5_leafFor_31 rfl (lv_at hl 3 rfl) ?_
    refine tw_callVi E hK hT hS (As := [.int (i1), .int (i2)]) (rest := [.ref (ta 73)]) (met_levelOf l G ta (d + 399) hw) (cwV 2 E.2.2.2.2 (lw_V q2343 q2345 qs108 q128 q2346) rfl rfl rfl hd_levelOf (rm_ok (by omega) (by decide))) rfl rfl hl.1 (Nat.le_of_ble_eq_true rfl) dX5_leafFor_32 (fun r9 z8 H locs hw hT hS => ?_)
    refine tw_puti E hK hT hS 63 (Nat.le_of_ble_eq_true rfl) q1873 rfl rfl rfl rfl dX5_leafFor_35 (fun H locs hT hS => ?_)
    obtain ⟨z10, ez10⟩ : ∃ y, y = ux z8 63 r9 := ⟨_, rfl⟩
    rw [← ez10] at hT
    replace hw := hw z10 ez10
    refine lv_aload_n E.1 E.2.1 dX5_leafFor_38 rfl (lv_at hl 1 rfl) ?_
    refine tw_get E hK hT 8 (Nat.le_of_ble_eq_true rfl) q1818 rfl (v := .ref (ta 8)) rfl dX5_leafFor_39 ?_
    refine lv_bipush (v := nI 6) E.1 E.2.1 dX5_leafFor_42 rfl ?_
    refine lv_iload_n E.1 E.2.1 dX5_leafFor_44 rfl (lv_at hl 2 rfl) ?_
    refine lv_imul E.1 E.2.1 dX5_leafFor_45 ?_
    refine lv_iload_n E.1 E.2.1 dX5_leafFor_46 rfl (lv_at hl 0 rfl) ?_
    refine lv_iadd E.1 E.2.1 dX5_leafFor_47 ?_
    obtain ⟨hin, hw⟩ := hw
    refine tw_iald E hK hT 8 rfl hin dX5_leafFor_48 ?_
    refine lv_topi (fun x11 ex11 => ?_)
    replace hw := hw x11 ex11
    refine lv_istore (lv' := [(4, .int (x11)), (3, .int (r3)), (0, .ref (ta 73)), (1, .int (i1)), (2, .int (i2))]) E.1 E.2.1 dX5_leafFor_49 hl (Nat.le_of_ble_eq_true rfl) rfl (fun ls hl => ?_)
    obtain ⟨I12, ⟨n18, hi38⟩, hb37⟩ := hw
    have L16 : ∀ (n13 : Nat) (z14 : TS) (x17 : Int32), I12 n13 z14 x17 → ∀ (H : Heap) (locs : List Loc) (ls : Array Slot), TW G ta z14 H → va_S (TA ta) s.heap H locs → lv_has ls 6 [(0, .ref (ta 73)), (1, .int (i1)), (2, .int (i2)), (4, .int (x17))] → W p l e (rmd (d + 403) 0 0) s m args below meth c H locs 0 0 (MQ below (tQi G ta post) args s 0 0 (TA ta)) (F0 m 51 ls []) := by
      intro n13
      induction n13 using Nat.strongRecOn with
      | _ n13 ih15 =>
        intro z14 x17 hw H locs ls hT hS hl
        replace hw := hb37 n13 z14 x17 hw
        refine lv_aload_n E.1 E.2.1 dX5_leafFor_51 rfl (lv_at hl 0 rfl) ?_
        refine tw_get E hK hT 20 (Nat.le_of_ble_eq_true rfl) q1830 rfl (v := .ref (ta 20)) rfl dX5_leafFor_52 ?_
        refine lv_bipush (v := nI 40) E.1 E.2.1 dX5_leafFor_55 rfl ?_
        refine lv_iload_n E.1 E.2.1 dX5_leafFor_57 rfl (lv_at hl 1 rfl) ?_
        refine lv_imul E.1 E.2.1 dX5_leafFor_58 ?_
        refine lv_iload E.1 E.2.1 dX5_leafFor_59 (lv_at hl 3 rfl) ?_
        refine lv_iadd E.1 E.2.1 dX5_leafFor_61 ?_
        obtain ⟨hin, hw⟩ := hw
        refine tw_iald E hK hT 20 rfl hin dX5_leafFor_62 ?_
        refine lv_if_ge (tgt := 152) E.1 E.2.1 dX5_leafFor_63 (by decide) (fun c19 => ?_) (fun c19 => ?_)
        · replace hw := hw.1 (c19)
          refine lv_iload E.1 E.2.1 dX5_leafFor_152 (lv_at hl 3 rfl) ?_
          exact tw_ireti E hr hlocks hT hS hw dX5_leafFor_154
        · replace hw := hw.2 (c19)
          obtain ⟨J20, hj36, hw⟩ := hw
          have jh21 : ∀ (z22 : TS) (b23 : Bool) (b24 : Bool) (x25 : Int32), J20 z22 b23 b24 x25 → ∀ (H : Heap) (locs : List Loc) (ls : Array Slot), TW G ta z22 H → va_S (TA ta) s.heap H locs → lv_has ls 6 [(0, .ref (ta 73)), (1, .int (i1)), (2, .int (i2)), (4, .int (x17)), (5, .int (bi b23))] → W p l e (rmd (d + 403) 0 0) s m args below meth c H locs 0 0 (MQ below (tQi G ta post) args s 0 0 (TA ta)) (F0 m 104 ls [.int (bi b24), .int (x25), .ref (ta 64)]) := by
            intro z22 b23 b24 x25 hw H locs ls hT hS hl
            replace hw := hj36 z22 b23 b24 x25 hw
            obtain ⟨hin, hw⟩ := hw
            refine tw_iast E hK hT hS 64 rfl hin dX5_leafFor_104 (fun H locs hT hS => ?_)
            obtain ⟨z26, ez26⟩ : ∃ y, y = uf z22 64 x25.toNatClampNeg (bi b24) := ⟨_, rfl⟩
            rw [← ez26] at hT
            replace hw := hw z26 ez26
            refine lv_aload_n E.1 E.2.1 dX5_leafFor_105 rfl (lv_at hl 0 rfl) ?_
            refine lv_dup E.1 E.2.1 dX5_leafFor_106 rfl ?_
            refine tw_get E hK hT 65 (Nat.le_of_ble_eq_true rfl) q1875 rfl (v := .int (sx z26 65)) rfl dX5_leafFor_107 ?_
            refine lv_iconst (v := nI 1) E.1 E.2.1 dX5_leafFor_110 rfl ?_
            refine lv_iadd E.1 E.2.1 dX5_leafFor_111 ?_
            refine tw_puti E hK hT hS 65 (Nat.le_of_ble_eq_true rfl) q1875 rfl rfl rfl rfl dX5_leafFor_112 (fun H locs hT hS => ?_)
            obtain ⟨z27, ez27⟩ : ∃ y, y = ux z26 65 ((sx z26 65) + (nI 1)) := ⟨_, rfl⟩
            rw [← ez27] at hT
            replace hw := hw z27 ez27
            refine lv_iload E.1 E.2.1 dX5_leafFor_115 (lv_at hl 4 rfl) ?_
            refine lv_if_eq (tgt := 135) E.1 E.2.1 dX5_leafFor_117 (by decide) (fun c28 => ?_) (fun c28 => ?_)
            · replace hw := hw.1 (bi_z c28)
              refine lv_aload_n E.1 E.2.1 dX5_leafFor_135 rfl (lv_at hl 0 rfl) ?_
              refine tw_get E hK hT 23 (Nat.le_of_ble_eq_true rfl) q1833 rfl (v := .ref (ta 23)) rfl dX5_leafFor_136 ?_
              refine lv_bipush (v := nI 40) E.1 E.2.1 dX5_leafFor_139 rfl ?_
              refine lv_iload_n E.1 E.2.1 dX5_leafFor_141 rfl (lv_at hl 1 rfl) ?_
              refine lv_imul E.1 E.2.1 dX5_leafFor_142 ?_
              refine lv_iload E.1 E.2.1 dX5_leafFor_143 (lv_at hl 3 rfl) ?_
              refine lv_iadd E.1 E.2.1 dX5_leafFor_145 ?_
              obtain ⟨hin, hw⟩ := hw
              refine tw_iald E hK hT 23 rfl hin dX5_leafFor_146 ?_
              refine lv_topi (fun x29 ex29 => ?_)
              replace hw := hw x29 ex29
              refine lv_istore (lv' := [(4, .int (x29)), (0, .ref (ta 73)), (1, .int (i1)), (2, .int (i2)), (5, .int (bi b23))]) E.1 E.2.1 dX5_leafFor_147 hl (Nat.le_of_ble_eq_true rfl) rfl (fun ls hl => ?_)
              refine lv_goto (tgt := 51) E.1 E.2.1 dX5_leafFor_149 (by decide) ?_
              obtain ⟨n30, hnn30, hin30⟩ := hw
              exact ih15 n30 hnn30 _ _ hin30 _ _ _ hT hS (lv_sub hl [1, 2, 3, 0] rfl)
            · replace hw := hw.2 (bi_n c28)
              refine lv_aload_n E.1 E.2.1 dX5_leafFor_120 rfl (lv_at hl 0 rfl) ?_
              refine tw_get E hK hT 22 (Nat.le_of_ble_eq_true rfl) q1832 rfl (v := .ref (ta 22)) rfl dX5_leafFor_121 ?_
              refine lv_bipush (v := nI 40) E.1 E.2.1 dX5_leafFor_124 rfl ?_
              refine lv_iload_n E.1 E.2.1 dX5_leafFor_126 rfl (lv_at hl 1 rfl) ?_
              refine lv_imul E.1 E.2.1 dX5_leafFor_127 ?_
              refine lv_iload E.1 E.2.1 dX5_leafFor_128 (lv_at hl 3 rfl) ?_
              refine lv_iadd E.1 E.2.1 dX5_leafFor_130 ?_
              obtain ⟨hin, hw⟩ := hw
              refine tw_iald E hK hT 22 rfl hin dX5_leafFor_131 ?_
              refine lv_goto (tgt := 147) E.1 E.2.1 dX5_leafFor_132 (by decide) ?_
              refine lv_topi (fun x31 ex31 => ?_)
              replace hw := hw x31 ex31
              refine lv_istore (lv' := [(4, .int (x31)), (0, .ref (ta 73)), (1, .int (i1)), (2, .int (i2)), (5, .int (bi b23))]) E.1 E.2.1 dX5_leafFor_147 hl (Nat.le_of_ble_eq_true rfl) rfl (fun ls hl => ?_)
              refine lv_goto (tgt := 51) E.1 E.2.1 dX5_leafFor_149 (by decide) ?_
              obtain ⟨n32, hnn32, hin32⟩ := hw
              exact ih15 n32 hnn32 _ _ hin32 _ _ _ hT hS (lv_sub hl [1, 2, 3, 0] rfl)
          refine lv_aload_n E.1 E.2.1 dX5_leafFor_66 rfl (lv_at hl 0 rfl) ?_
          refine lv_iload_n E.1 E.2.1 dX5_leafFor_67 rfl (lv_at hl 1 rfl) ?_
          refine lv_iload_n E.1 E.2.1 dX5_leafFor_68 rfl (lv_at hl 2 rfl) ?_
          refine lv_aload_n E.1 E.2.1 dX5_leafFor_69 rfl (lv_at hl 0 rfl) ?_
          refine tw_get E hK hT 21 (Nat.le_of_ble_eq_true rfl) q1831 rfl (v := .ref (ta 21)) rfl dX5_leafFor_70 ?_
          refine lv_bipush (v := nI 40) E.1 E.2.1 dX5_leafFor_73 rfl ?_
          refine lv_iload_n E.1 E.2.1 dX5_leafFor_75 rfl (lv_at hl 1 rfl) ?_
          refine lv_imul E.1 E.2.1 dX5_leafFor_76 ?_
          refine lv_iload E.1 E.2.1 dX5_leafFor_77 (lv_at hl 3 rfl) ?_
          refine lv_iadd E.1 E.2.1 dX5_leafFor_79 ?_
          obtain ⟨hin, hw⟩ := hw
          refine tw_iald E hK hT 21 rfl hin dX5_leafFor_80 ?_
          refine tw_callVz E hK hT hS (As := [.int (i1), .int (i2), .int (sf z14 21 (((nI 40) * i1) + x17).toNatClampNeg)]) (rest := []) (met_isSo l G ta (d) d_isSo hw) (cwV 3 E.2.2.2.2 (lw_V q2367 q2369 qs114 q128 q2370) rfl rfl rfl hd_isSo (rm_ok (by omega) (by decide))) rfl rfl hl.1 (Nat.le_of_ble_eq_true rfl) dX5_leafFor_81 (fun b34 z33 H locs hw hT hS => ?_)
          refine lv_istore (lv' := [(5, .int (bi b34)), (0, .ref (ta 73)), (1, .int (i1)), (2, .int (i2)), (4, .int (x17))]) E.1 E.2.1 dX5_leafFor_84 hl (Nat.le_of_ble_eq_true rfl) rfl (fun ls hl => ?_)
          refine lv_aload_n E.1 E.2.1 dX5_leafFor_86 rfl (lv_at hl 1 rfl) ?_
          refine tw_get E hK hT 64 (Nat.le_of_ble_eq_true rfl) q1874 rfl (v := .ref (ta 64)) rfl dX5_leafFor_87 ?_
          refine lv_aload_n E.1 E.2.1 dX5_leafFor_90 rfl (lv_at hl 1 rfl) ?_
          refine tw_get E hK hT 65 (Nat.le_of_ble_eq_true rfl) q1875 rfl (v := .int (sx z33 65)) rfl dX5_leafFor_91 ?_
          refine lv_iload E.1 E.2.1 dX5_leafFor_94 (lv_at hl 0 rfl) ?_
          refine lv_if_eq (tgt := 103) E.1 E.2.1 dX5_leafFor_96 (by decide) (fun c35 => ?_) (fun c35 => ?_)
          · replace hw := hw.1 (bi_z c35)
            refine lv_iconst (v := nI 0) E.1 E.2.1 dX5_leafFor_103 rfl ?_
            exact jh21 _ _ _ _ hw _ _ _ hT hS (lv_sub hl [1, 2, 3, 4, 0] rfl)
          · replace hw := hw.2 (bi_n c35)
            refine lv_iconst (v := nI 1) E.1 E.2.1 dX5_leafFor_99 rfl ?_
            refine lv_goto (tgt := 104) E.1 E.2.1 dX5_leafFor_100 (by decide) ?_
            exact jh21 _ _ _ _ hw _ _ _ hT hS (lv_sub hl [1, 2, 3, 4, 0] rfl)
    exact L16 n18 _ _ hi38 _ _ _ hT hS (lv_sub hl [2, 3, 4, 0] rfl)
  · replace hw := hw.2 (c4)
    refine lv_iconst (v := (-1)) E.1 E.2.1 dX5_leafFor_16 rfl ?_
    exact tw_ireti E hr hlocks hT hS hw dX5_leafFor_17
/-- classFor(II)I -/
def wp_classFor (post : Int32 → TS → Prop) (z0 : TS) (i1 : Int32) (i2 : Int32) : Prop := wp_leafFor (fun r2 z1 => (0 ≤ r2 → vp_in (((nI 40) * i1) + r2) 120 ∧ post (sf z1 20 (((nI 40) * i1) + r2).toNatClampNeg) z1) ∧ (¬ 0 ≤ r2 → post ((-1)) z1)) z0 i1 i2
theorem hd_classFor : yX5_classFor.cls = RX5 ∧ yX5_classFor.cls ≠ "java/lang/invoke/MethodHandle" ∧ yX5_classFor.cls ≠ "java/lang/invoke/VarHandle" ∧ (parseMethodDescriptor yX5_classFor.desc).map (fun d => d.parameters.length) = some 2 := by decide +kernel
set_option maxHeartbeats 4000000 in
theorem met_classFor (l : Launch) (G : GP) (ta : Nat → Nat) (d : Nat) {post : Int32 → TS → Prop} {z0 : TS} {i1 : Int32} {i2 : Int32} (hw : wp_classFor post z0 i1 i2) : Met l yX5_classFor (ws_ yX5_classFor cX5_classFor 4 (some .int)) (rmd (d + 404) 0 0) (tPc G ta z0 [.ref (ta 73), .int (i1), .int (i2)]) (tQi G ta post) 0 0 (TA ta) := by
  unfold wp_classFor at hw
  refine tw_met (by decide) rfl (Nat.le_of_ble_eq_true rfl) ?_
  intro p e s m args below meth c ls E hr hlocks hK hT hS hl
  replace hl : lv_has ls 4 [(0, .ref (ta 73)), (1, .int (i1)), (2, .int (i2))] := hl
  refine lv_aload_n E.1 E.2.1 dX5_classFor_0 rfl (lv_at hl 0 rfl) ?_
  refine lv_iload_n E.1 E.2.1 dX5_classFor_1 rfl (lv_at hl 1 rfl) ?_
  refine lv_iload_n E.1 E.2.1 dX5_classFor_2 rfl (lv_at hl 2 rfl) ?_
  refine tw_callVi E hK hT hS (As := [.int (i1), .int (i2)]) (rest := []) (met_leafFor l G ta (d) hw) (cwV 2 E.2.2.2.2 (lw_V q2363 q2365 qs113 q128 q2366) rfl rfl rfl hd_leafFor (rm_ok (by omega) (by decide))) rfl rfl hl.1 (Nat.le_of_ble_eq_true rfl) dX5_classFor_3 (fun r2 z1 H locs hw hT hS => ?_)
  refine lv_istore_n (lv' := [(3, .int (r2)), (0, .ref (ta 73)), (1, .int (i1)), (2, .int (i2))]) E.1 E.2.1 dX5_classFor_6 rfl hl (Nat.le_of_ble_eq_true rfl) rfl (fun ls hl => ?_)
  refine lv_iload_n E.1 E.2.1 dX5_classFor_7 rfl (lv_at hl 0 rfl) ?_
  refine lv_if_ge (tgt := 15) E.1 E.2.1 dX5_classFor_8 (by decide) (fun c3 => ?_) (fun c3 => ?_)
  · replace hw := hw.1 (c3)
    refine lv_aload_n E.1 E.2.1 dX5_classFor_15 rfl (lv_at hl 1 rfl) ?_
    refine tw_get E hK hT 20 (Nat.le_of_ble_eq_true rfl) q1830 rfl (v := .ref (ta 20)) rfl dX5_classFor_16 ?_
    refine lv_bipush (v := nI 40) E.1 E.2.1 dX5_classFor_19 rfl ?_
    refine lv_iload_n E.1 E.2.1 dX5_classFor_21 rfl (lv_at hl 2 rfl) ?_
    refine lv_imul E.1 E.2.1 dX5_classFor_22 ?_
    refine lv_iload_n E.1 E.2.1 dX5_classFor_23 rfl (lv_at hl 0 rfl) ?_
    refine lv_iadd E.1 E.2.1 dX5_classFor_24 ?_
    obtain ⟨hin, hw⟩ := hw
    refine tw_iald E hK hT 20 rfl hin dX5_classFor_25 ?_
    exact tw_ireti E hr hlocks hT hS hw dX5_classFor_26
  · replace hw := hw.2 (c3)
    refine lv_iconst (v := (-1)) E.1 E.2.1 dX5_classFor_11 rfl ?_
    refine lv_goto (tgt := 26) E.1 E.2.1 dX5_classFor_12 (by decide) ?_
    exact tw_ireti E hr hlocks hT hS hw dX5_classFor_26
/-- leafNumber(I)I -/
def wp_leafNumber (post : Int32 → TS → Prop) (z0 : TS) (i1 : Int32) : Prop := (0 ≤ i1 → wp_find (fun r3 z2 => post r3 z2) z0 67 (nI 0) (sx z0 66) i1) ∧ (¬ 0 ≤ i1 → post ((-1)) z0)
theorem hd_leafNumber : yX5_leafNumber.cls = RX5 ∧ yX5_leafNumber.cls ≠ "java/lang/invoke/MethodHandle" ∧ yX5_leafNumber.cls ≠ "java/lang/invoke/VarHandle" ∧ (parseMethodDescriptor yX5_leafNumber.desc).map (fun d => d.parameters.length) = some 1 := by decide +kernel
set_option maxHeartbeats 4000000 in
theorem met_leafNumber (l : Launch) (G : GP) (ta : Nat → Nat) (d : Nat) {post : Int32 → TS → Prop} {z0 : TS} {i1 : Int32} (hw : wp_leafNumber post z0 i1) : Met l yX5_leafNumber (ws_ yX5_leafNumber cX5_leafNumber 2 (some .int)) (rmd (d + 1) 0 0) (tPc G ta z0 [.ref (ta 73), .int (i1)]) (tQi G ta post) 0 0 (TA ta) := by
  unfold wp_leafNumber at hw
  refine tw_met (by decide) rfl (Nat.le_of_ble_eq_true rfl) ?_
  intro p e s m args below meth c ls E hr hlocks hK hT hS hl
  replace hl : lv_has ls 2 [(0, .ref (ta 73)), (1, .int (i1))] := hl
  refine lv_iload_n E.1 E.2.1 dX5_leafNumber_0 rfl (lv_at hl 1 rfl) ?_
  refine lv_if_ge (tgt := 8) E.1 E.2.1 dX5_leafNumber_1 (by decide) (fun c1 => ?_) (fun c1 => ?_)
  · replace hw := hw.1 (c1)
    refine lv_aload_n E.1 E.2.1 dX5_leafNumber_8 rfl (lv_at hl 0 rfl) ?_
    refine tw_get E hK hT 67 (Nat.le_of_ble_eq_true rfl) q1877 rfl (v := .ref (ta 67)) rfl dX5_leafNumber_9 ?_
    refine lv_iconst (v := nI 0) E.1 E.2.1 dX5_leafNumber_12 rfl ?_
    refine lv_aload_n E.1 E.2.1 dX5_leafNumber_13 rfl (lv_at hl 0 rfl) ?_
    refine tw_get E hK hT 66 (Nat.le_of_ble_eq_true rfl) q1876 rfl (v := .int (sx z0 66)) rfl dX5_leafNumber_14 ?_
    refine lv_iload_n E.1 E.2.1 dX5_leafNumber_17 rfl (lv_at hl 1 rfl) ?_
    refine tw_callSi E hK hT hS (As := [.ref (ta 67), .int (nI 0), .int (sx z0 66), .int (i1)]) (rest := []) (met_find l G ta (d) hw) (va_cwS 4 E.2.2.2.2 (lw_S q2298 q2299 q128 q2300) rfl rfl rfl hs_find (rm_ok (by omega) (by decide))) rfl rfl hl.1 (Nat.le_of_ble_eq_true rfl) dX5_leafNumber_18 (fun r3 z2 H locs hw hT hS => ?_)
    exact tw_ireti E hr hlocks hT hS hw dX5_leafNumber_21
  · replace hw := hw.2 (c1)
    refine lv_iconst (v := (-1)) E.1 E.2.1 dX5_leafNumber_4 rfl ?_
    refine lv_goto (tgt := 21) E.1 E.2.1 dX5_leafNumber_5 (by decide) ?_
    exact tw_ireti E hr hlocks hT hS hw dX5_leafNumber_21
/-- weightFor(II)I -/
def wp_weightFor (post : Int32 → TS → Prop) (z0 : TS) (i1 : Int32) (i2 : Int32) : Prop := wp_classFor (fun r2 z1 => (0 ≤ r2 → vp_in (((nI 16) * i1) + r2) 48 ∧ post (sf z1 19 (((nI 16) * i1) + r2).toNatClampNeg) z1) ∧ (¬ 0 ≤ r2 → post (nI 0) z1)) z0 i1 i2
theorem hd_weightFor : yX5_weightFor.cls = RX5 ∧ yX5_weightFor.cls ≠ "java/lang/invoke/MethodHandle" ∧ yX5_weightFor.cls ≠ "java/lang/invoke/VarHandle" ∧ (parseMethodDescriptor yX5_weightFor.desc).map (fun d => d.parameters.length) = some 2 := by decide +kernel
set_option maxHeartbeats 4000000 in
theorem met_weightFor (l : Launch) (G : GP) (ta : Nat → Nat) (d : Nat) {post : Int32 → TS → Prop} {z0 : TS} {i1 : Int32} {i2 : Int32} (hw : wp_weightFor post z0 i1 i2) : Met l yX5_weightFor (ws_ yX5_weightFor cX5_weightFor 4 (some .int)) (rmd (d + 405) 0 0) (tPc G ta z0 [.ref (ta 73), .int (i1), .int (i2)]) (tQi G ta post) 0 0 (TA ta) := by
  unfold wp_weightFor at hw
  refine tw_met (by decide) rfl (Nat.le_of_ble_eq_true rfl) ?_
  intro p e s m args below meth c ls E hr hlocks hK hT hS hl
  replace hl : lv_has ls 4 [(0, .ref (ta 73)), (1, .int (i1)), (2, .int (i2))] := hl
  refine lv_aload_n E.1 E.2.1 dX5_weightFor_0 rfl (lv_at hl 0 rfl) ?_
  refine lv_iload_n E.1 E.2.1 dX5_weightFor_1 rfl (lv_at hl 1 rfl) ?_
  refine lv_iload_n E.1 E.2.1 dX5_weightFor_2 rfl (lv_at hl 2 rfl) ?_
  refine tw_callVi E hK hT hS (As := [.int (i1), .int (i2)]) (rest := []) (met_classFor l G ta (d) hw) (cwV 2 E.2.2.2.2 (lw_V q2359 q2361 qs112 q128 q2362) rfl rfl rfl hd_classFor (rm_ok (by omega) (by decide))) rfl rfl hl.1 (Nat.le_of_ble_eq_true rfl) dX5_weightFor_3 (fun r2 z1 H locs hw hT hS => ?_)
  refine lv_istore_n (lv' := [(3, .int (r2)), (0, .ref (ta 73)), (1, .int (i1)), (2, .int (i2))]) E.1 E.2.1 dX5_weightFor_6 rfl hl (Nat.le_of_ble_eq_true rfl) rfl (fun ls hl => ?_)
  refine lv_iload_n E.1 E.2.1 dX5_weightFor_7 rfl (lv_at hl 0 rfl) ?_
  refine lv_if_ge (tgt := 15) E.1 E.2.1 dX5_weightFor_8 (by decide) (fun c3 => ?_) (fun c3 => ?_)
  · replace hw := hw.1 (c3)
    refine lv_aload_n E.1 E.2.1 dX5_weightFor_15 rfl (lv_at hl 1 rfl) ?_
    refine tw_get E hK hT 19 (Nat.le_of_ble_eq_true rfl) q1829 rfl (v := .ref (ta 19)) rfl dX5_weightFor_16 ?_
    refine lv_bipush (v := nI 16) E.1 E.2.1 dX5_weightFor_19 rfl ?_
    refine lv_iload_n E.1 E.2.1 dX5_weightFor_21 rfl (lv_at hl 2 rfl) ?_
    refine lv_imul E.1 E.2.1 dX5_weightFor_22 ?_
    refine lv_iload_n E.1 E.2.1 dX5_weightFor_23 rfl (lv_at hl 0 rfl) ?_
    refine lv_iadd E.1 E.2.1 dX5_weightFor_24 ?_
    obtain ⟨hin, hw⟩ := hw
    refine tw_iald E hK hT 19 rfl hin dX5_weightFor_25 ?_
    exact tw_ireti E hr hlocks hT hS hw dX5_weightFor_26
  · replace hw := hw.2 (c3)
    refine lv_iconst (v := nI 0) E.1 E.2.1 dX5_weightFor_11 rfl ?_
    refine lv_goto (tgt := 26) E.1 E.2.1 dX5_weightFor_12 (by decide) ?_
    exact tw_ireti E hr hlocks hT hS hw dX5_weightFor_26
/-- of(II)I -/
def wp_of (post : Int32 → TS → Prop) (z0 : TS) (i1 : Int32) (i2 : Int32) : Prop := ∀ z1, z1 = ux z0 2 (nI 0) → wp_isStay (fun b3 z2 => (b3 = true → (i2 = nI 0 → vp_in (i1) 24 ∧ post (sf z2 35 i1.toNatClampNeg) z2) ∧ (¬ i2 = nI 0 → (i2 = nI 1 → vp_in (i1) 24 ∧ post (sf z2 36 i1.toNatClampNeg) z2) ∧ (¬ i2 = nI 1 → (i2 = nI 2 → vp_in (i1) 24 ∧ post (sf z2 37 i1.toNatClampNeg) z2) ∧ (¬ i2 = nI 2 → (i2 = nI 3 → vp_in (i1) 24 ∧ post (sf z2 38 i1.toNatClampNeg) z2) ∧ (¬ i2 = nI 3 → (i2 = nI 4 → vp_in (i1) 24 ∧ post (sf z2 40 i1.toNatClampNeg) z2) ∧ (¬ i2 = nI 4 → (i2 = nI 5 → wp_chapterFor (fun r12 z11 => post r12 z11) z2 (sx z2 29) i1) ∧ (¬ i2 = nI 5 → (i2 = nI 6 → wp_topOf (fun r15 z14 => post r15 z14) z2 (sx z2 29) i1) ∧ (¬ i2 = nI 6 → (i2 = nI 7 → wp_levelOf (fun r18 z17 => post r18 z17) z2 (sx z2 29) i1) ∧ (¬ i2 = nI 7 → (i2 = nI 8 → wp_classFor (fun r21 z20 => post r21 z20) z2 (sx z2 29) i1) ∧ (¬ i2 = nI 8 → (i2 = nI 9 → wp_weightFor (fun r24 z23 => post r24 z23) z2 (sx z2 29) i1) ∧ (¬ i2 = nI 9 → (i2 = nI 10 → wp_leafFor (fun r27 z26 => (0 ≤ r27 → post (sx z26 65) z26) ∧ (¬ 0 ≤ r27 → post (nI 0) z26)) z2 (sx z2 29) i1) ∧ (¬ i2 = nI 10 → (i2 = nI 11 → wp_leafFor (fun r31 z30 => wp_leafNumber (fun r33 z32 => post r33 z32) z30 r31) z2 (sx z2 29) i1) ∧ (¬ i2 = nI 11 → post ((-2)) z2))))))))))))) ∧ (b3 = false → post ((-2)) z2)) z1 i1
theorem hd_of : yX5_of.cls = RX5 ∧ yX5_of.cls ≠ "java/lang/invoke/MethodHandle" ∧ yX5_of.cls ≠ "java/lang/invoke/VarHandle" ∧ (parseMethodDescriptor yX5_of.desc).map (fun d => d.parameters.length) = some 2 := by decide +kernel
set_option maxHeartbeats 4000000 in
theorem met_of (l : Launch) (G : GP) (ta : Nat → Nat) (d : Nat) {post : Int32 → TS → Prop} {z0 : TS} {i1 : Int32} {i2 : Int32} (hw : wp_of post z0 i1 i2) : Met l yX5_of (ws_ yX5_of cX5_of 4 (some .int)) (rmd (d + 406) 0 0) (tPc G ta z0 [.ref (ta 73), .int (i1), .int (i2)]) (tQi G ta post) 0 0 (TA ta) := by
  unfold wp_of at hw
  refine tw_met (by decide) rfl (Nat.le_of_ble_eq_true rfl) ?_
  intro p e s m args below meth c ls E hr hlocks hK hT hS hl
  replace hl : lv_has ls 4 [(0, .ref (ta 73)), (1, .int (i1)), (2, .int (i2))] := hl
  refine lv_aload_n E.1 E.2.1 dX5_of_0 rfl (lv_at hl 0 rfl) ?_
  refine lv_iconst (v := nI 0) E.1 E.2.1 dX5_of_1 rfl ?_
  refine tw_puti E hK hT hS 2 (Nat.le_of_ble_eq_true rfl) q1812 rfl rfl rfl rfl dX5_of_2 (fun H locs hT hS => ?_)
  obtain ⟨z1, ez1⟩ : ∃ y, y = ux z0 2 (nI 0) := ⟨_, rfl⟩
  rw [← ez1] at hT
  replace hw := hw z1 ez1
  refine lv_aload_n E.1 E.2.1 dX5_of_5 rfl (lv_at hl 0 rfl) ?_
  refine lv_iload_n E.1 E.2.1 dX5_of_6 rfl (lv_at hl 1 rfl) ?_
  refine tw_callVz E hK hT hS (As := [.int (i1)]) (rest := []) (met_isStay l G ta (d + 404) hw) (cwV 1 E.2.2.2.2 (lw_V q2294 q2296 qs102 q128 q2297) rfl rfl rfl hd_isStay (rm_ok (by omega) (by decide))) rfl rfl hl.1 (Nat.le_of_ble_eq_true rfl) dX5_of_7 (fun b3 z2 H locs hw hT hS => ?_)
  refine lv_if_ne (tgt := 16) E.1 E.2.1 dX5_of_10 (by decide) (fun c4 => ?_) (fun c4 => ?_)
  · replace hw := hw.1 (bi_n c4)
    refine lv_iload_n E.1 E.2.1 dX5_of_16 rfl (lv_at hl 2 rfl) ?_
    by_cases c5 : i2 = nI 0
    · replace hw := hw.1 c5
      have hti : i2.toInt = 0 := by rw [c5]; decide
      refine lv_tableIn (tgt := 80) (off := 63) E.1 E.2.1 dX5_of_17 (by rw [hti]; decide) (by rw [hti]; decide) (by rw [hti]; rfl) (by decide) ?_
      refine lv_aload_n E.1 E.2.1 dX5_of_80 rfl (lv_at hl 0 rfl) ?_
      refine tw_get E hK hT 35 (Nat.le_of_ble_eq_true rfl) q1845 rfl (v := .ref (ta 35)) rfl dX5_of_81 ?_
      refine lv_iload_n E.1 E.2.1 dX5_of_84 rfl (lv_at hl 1 rfl) ?_
      obtain ⟨hin, hw⟩ := hw
      refine tw_iald E hK hT 35 rfl hin dX5_of_85 ?_
      exact tw_ireti E hr hlocks hT hS hw dX5_of_86
    replace hw := hw.2 c5
    by_cases c6 : i2 = nI 1
    · replace hw := hw.1 c6
      have hti : i2.toInt = 1 := by rw [c6]; decide
      refine lv_tableIn (tgt := 87) (off := 70) E.1 E.2.1 dX5_of_17 (by rw [hti]; decide) (by rw [hti]; decide) (by rw [hti]; rfl) (by decide) ?_
      refine lv_aload_n E.1 E.2.1 dX5_of_87 rfl (lv_at hl 0 rfl) ?_
      refine tw_get E hK hT 36 (Nat.le_of_ble_eq_true rfl) q1846 rfl (v := .ref (ta 36)) rfl dX5_of_88 ?_
      refine lv_iload_n E.1 E.2.1 dX5_of_91 rfl (lv_at hl 1 rfl) ?_
      obtain ⟨hin, hw⟩ := hw
      refine tw_iald E hK hT 36 rfl hin dX5_of_92 ?_
      exact tw_ireti E hr hlocks hT hS hw dX5_of_93
    replace hw := hw.2 c6
    by_cases c7 : i2 = nI 2
    · replace hw := hw.1 c7
      have hti : i2.toInt = 2 := by rw [c7]; decide
      refine lv_tableIn (tgt := 94) (off := 77) E.1 E.2.1 dX5_of_17 (by rw [hti]; decide) (by rw [hti]; decide) (by rw [hti]; rfl) (by decide) ?_
      refine lv_aload_n E.1 E.2.1 dX5_of_94 rfl (lv_at hl 0 rfl) ?_
      refine tw_get E hK hT 37 (Nat.le_of_ble_eq_true rfl) q1847 rfl (v := .ref (ta 37)) rfl dX5_of_95 ?_
      refine lv_iload_n E.1 E.2.1 dX5_of_98 rfl (lv_at hl 1 rfl) ?_
      obtain ⟨hin, hw⟩ := hw
      refine tw_iald E hK hT 37 rfl hin dX5_of_99 ?_
      exact tw_ireti E hr hlocks hT hS hw dX5_of_100
    replace hw := hw.2 c7
    by_cases c8 : i2 = nI 3
    · replace hw := hw.1 c8
      have hti : i2.toInt = 3 := by rw [c8]; decide
      refine lv_tableIn (tgt := 101) (off := 84) E.1 E.2.1 dX5_of_17 (by rw [hti]; decide) (by rw [hti]; decide) (by rw [hti]; rfl) (by decide) ?_
      refine lv_aload_n E.1 E.2.1 dX5_of_101 rfl (lv_at hl 0 rfl) ?_
      refine tw_get E hK hT 38 (Nat.le_of_ble_eq_true rfl) q1848 rfl (v := .ref (ta 38)) rfl dX5_of_102 ?_
      refine lv_iload_n E.1 E.2.1 dX5_of_105 rfl (lv_at hl 1 rfl) ?_
      obtain ⟨hin, hw⟩ := hw
      refine tw_iald E hK hT 38 rfl hin dX5_of_106 ?_
      exact tw_ireti E hr hlocks hT hS hw dX5_of_107
    replace hw := hw.2 c8
    by_cases c9 : i2 = nI 4
    · replace hw := hw.1 c9
      have hti : i2.toInt = 4 := by rw [c9]; decide
      refine lv_tableIn (tgt := 108) (off := 91) E.1 E.2.1 dX5_of_17 (by rw [hti]; decide) (by rw [hti]; decide) (by rw [hti]; rfl) (by decide) ?_
      refine lv_aload_n E.1 E.2.1 dX5_of_108 rfl (lv_at hl 0 rfl) ?_
      refine tw_get E hK hT 40 (Nat.le_of_ble_eq_true rfl) q1850 rfl (v := .ref (ta 40)) rfl dX5_of_109 ?_
      refine lv_iload_n E.1 E.2.1 dX5_of_112 rfl (lv_at hl 1 rfl) ?_
      obtain ⟨hin, hw⟩ := hw
      refine tw_iald E hK hT 40 rfl hin dX5_of_113 ?_
      exact tw_ireti E hr hlocks hT hS hw dX5_of_114
    replace hw := hw.2 c9
    by_cases c10 : i2 = nI 5
    · replace hw := hw.1 c10
      have hti : i2.toInt = 5 := by rw [c10]; decide
      refine lv_tableIn (tgt := 115) (off := 98) E.1 E.2.1 dX5_of_17 (by rw [hti]; decide) (by rw [hti]; decide) (by rw [hti]; rfl) (by decide) ?_
      refine lv_aload_n E.1 E.2.1 dX5_of_115 rfl (lv_at hl 0 rfl) ?_
      refine lv_aload_n E.1 E.2.1 dX5_of_116 rfl (lv_at hl 0 rfl) ?_
      refine tw_get E hK hT 29 (Nat.le_of_ble_eq_true rfl) q1839 rfl (v := .int (sx z2 29)) rfl dX5_of_117 ?_
      refine lv_iload_n E.1 E.2.1 dX5_of_120 rfl (lv_at hl 1 rfl) ?_
      refine tw_callVi E hK hT hS (As := [.int (sx z2 29), .int (i1)]) (rest := []) (met_chapterFor l G ta (d + 404) hw) (cwV 2 E.2.2.2.2 (lw_V q2335 q2337 qs106 q128 q2338) rfl rfl rfl hd_chapterFor (rm_ok (by omega) (by decide))) rfl rfl hl.1 (Nat.le_of_ble_eq_true rfl) dX5_of_121 (fun r12 z11 H locs hw hT hS => ?_)
      exact tw_ireti E hr hlocks hT hS hw dX5_of_124
    replace hw := hw.2 c10
    by_cases c13 : i2 = nI 6
    · replace hw := hw.1 c13
      have hti : i2.toInt = 6 := by rw [c13]; decide
      refine lv_tableIn (tgt := 125) (off := 108) E.1 E.2.1 dX5_of_17 (by rw [hti]; decide) (by rw [hti]; decide) (by rw [hti]; rfl) (by decide) ?_
      refine lv_aload_n E.1 E.2.1 dX5_of_125 rfl (lv_at hl 0 rfl) ?_
      refine lv_aload_n E.1 E.2.1 dX5_of_126 rfl (lv_at hl 0 rfl) ?_
      refine tw_get E hK hT 29 (Nat.le_of_ble_eq_true rfl) q1839 rfl (v := .int (sx z2 29)) rfl dX5_of_127 ?_
      refine lv_iload_n E.1 E.2.1 dX5_of_130 rfl (lv_at hl 1 rfl) ?_
      refine tw_callVi E hK hT hS (As := [.int (sx z2 29), .int (i1)]) (rest := []) (met_topOf l G ta (d + 404) hw) (cwV 2 E.2.2.2.2 (lw_V q2339 q2341 qs107 q128 q2342) rfl rfl rfl hd_topOf (rm_ok (by omega) (by decide))) rfl rfl hl.1 (Nat.le_of_ble_eq_true rfl) dX5_of_131 (fun r15 z14 H locs hw hT hS => ?_)
      exact tw_ireti E hr hlocks hT hS hw dX5_of_134
    replace hw := hw.2 c13
    by_cases c16 : i2 = nI 7
    · replace hw := hw.1 c16
      have hti : i2.toInt = 7 := by rw [c16]; decide
      refine lv_tableIn (tgt := 135) (off := 118) E.1 E.2.1 dX5_of_17 (by rw [hti]; decide) (by rw [hti]; decide) (by rw [hti]; rfl) (by decide) ?_
      refine lv_aload_n E.1 E.2.1 dX5_of_135 rfl (lv_at hl 0 rfl) ?_
      refine lv_aload_n E.1 E.2.1 dX5_of_136 rfl (lv_at hl 0 rfl) ?_
      refine tw_get E hK hT 29 (Nat.le_of_ble_eq_true rfl) q1839 rfl (v := .int (sx z2 29)) rfl dX5_of_137 ?_
      refine lv_iload_n E.1 E.2.1 dX5_of_140 rfl (lv_at hl 1 rfl) ?_
      refine tw_callVi E hK hT hS (As := [.int (sx z2 29), .int (i1)]) (rest := []) (met_levelOf l G ta (d + 402) hw) (cwV 2 E.2.2.2.2 (lw_V q2343 q2345 qs108 q128 q2346) rfl rfl rfl hd_levelOf (rm_ok (by omega) (by decide))) rfl rfl hl.1 (Nat.le_of_ble_eq_true rfl) dX5_of_141 (fun r18 z17 H locs hw hT hS => ?_)
      exact tw_ireti E hr hlocks hT hS hw dX5_of_144
    replace hw := hw.2 c16
    by_cases c19 : i2 = nI 8
    · replace hw := hw.1 c19
      have hti : i2.toInt = 8 := by rw [c19]; decide
      refine lv_tableIn (tgt := 145) (off := 128) E.1 E.2.1 dX5_of_17 (by rw [hti]; decide) (by rw [hti]; decide) (by rw [hti]; rfl) (by decide) ?_
      refine lv_aload_n E.1 E.2.1 dX5_of_145 rfl (lv_at hl 0 rfl) ?_
      refine lv_aload_n E.1 E.2.1 dX5_of_146 rfl (lv_at hl 0 rfl) ?_
      refine tw_get E hK hT 29 (Nat.le_of_ble_eq_true rfl) q1839 rfl (v := .int (sx z2 29)) rfl dX5_of_147 ?_
      refine lv_iload_n E.1 E.2.1 dX5_of_150 rfl (lv_at hl 1 rfl) ?_
      refine tw_callVi E hK hT hS (As := [.int (sx z2 29), .int (i1)]) (rest := []) (met_classFor l G ta (d + 1) hw) (cwV 2 E.2.2.2.2 (lw_V q2359 q2361 qs112 q128 q2362) rfl rfl rfl hd_classFor (rm_ok (by omega) (by decide))) rfl rfl hl.1 (Nat.le_of_ble_eq_true rfl) dX5_of_151 (fun r21 z20 H locs hw hT hS => ?_)
      exact tw_ireti E hr hlocks hT hS hw dX5_of_154
    replace hw := hw.2 c19
    by_cases c22 : i2 = nI 9
    · replace hw := hw.1 c22
      have hti : i2.toInt = 9 := by rw [c22]; decide
      refine lv_tableIn (tgt := 155) (off := 138) E.1 E.2.1 dX5_of_17 (by rw [hti]; decide) (by rw [hti]; decide) (by rw [hti]; rfl) (by decide) ?_
      refine lv_aload_n E.1 E.2.1 dX5_of_155 rfl (lv_at hl 0 rfl) ?_
      refine lv_aload_n E.1 E.2.1 dX5_of_156 rfl (lv_at hl 0 rfl) ?_
      refine tw_get E hK hT 29 (Nat.le_of_ble_eq_true rfl) q1839 rfl (v := .int (sx z2 29)) rfl dX5_of_157 ?_
      refine lv_iload_n E.1 E.2.1 dX5_of_160 rfl (lv_at hl 1 rfl) ?_
      refine tw_callVi E hK hT hS (As := [.int (sx z2 29), .int (i1)]) (rest := []) (met_weightFor l G ta (d) hw) (cwV 2 E.2.2.2.2 (lw_V q2371 q2373 qs115 q128 q2374) rfl rfl rfl hd_weightFor (rm_ok (by omega) (by decide))) rfl rfl hl.1 (Nat.le_of_ble_eq_true rfl) dX5_of_161 (fun r24 z23 H locs hw hT hS => ?_)
      exact tw_ireti E hr hlocks hT hS hw dX5_of_164
    replace hw := hw.2 c22
    by_cases c25 : i2 = nI 10
    · replace hw := hw.1 c25
      have hti : i2.toInt = 10 := by rw [c25]; decide
      refine lv_tableIn (tgt := 165) (off := 148) E.1 E.2.1 dX5_of_17 (by rw [hti]; decide) (by rw [hti]; decide) (by rw [hti]; rfl) (by decide) ?_
      refine lv_aload_n E.1 E.2.1 dX5_of_165 rfl (lv_at hl 0 rfl) ?_
      refine lv_aload_n E.1 E.2.1 dX5_of_166 rfl (lv_at hl 0 rfl) ?_
      refine tw_get E hK hT 29 (Nat.le_of_ble_eq_true rfl) q1839 rfl (v := .int (sx z2 29)) rfl dX5_of_167 ?_
      refine lv_iload_n E.1 E.2.1 dX5_of_170 rfl (lv_at hl 1 rfl) ?_
      refine tw_callVi E hK hT hS (As := [.int (sx z2 29), .int (i1)]) (rest := []) (met_leafFor l G ta (d + 2) hw) (cwV 2 E.2.2.2.2 (lw_V q2363 q2365 qs113 q128 q2366) rfl rfl rfl hd_leafFor (rm_ok (by omega) (by decide))) rfl rfl hl.1 (Nat.le_of_ble_eq_true rfl) dX5_of_171 (fun r27 z26 H locs hw hT hS => ?_)
      refine lv_istore_n (lv' := [(3, .int (r27)), (0, .ref (ta 73)), (1, .int (i1)), (2, .int (i2))]) E.1 E.2.1 dX5_of_174 rfl hl (Nat.le_of_ble_eq_true rfl) rfl (fun ls hl => ?_)
      refine lv_iload_n E.1 E.2.1 dX5_of_175 rfl (lv_at hl 0 rfl) ?_
      refine lv_if_ge (tgt := 183) E.1 E.2.1 dX5_of_176 (by decide) (fun c28 => ?_) (fun c28 => ?_)
      · replace hw := hw.1 (c28)
        refine lv_aload_n E.1 E.2.1 dX5_of_183 rfl (lv_at hl 1 rfl) ?_
        refine tw_get E hK hT 65 (Nat.le_of_ble_eq_true rfl) q1875 rfl (v := .int (sx z26 65)) rfl dX5_of_184 ?_
        exact tw_ireti E hr hlocks hT hS hw dX5_of_187
      · replace hw := hw.2 (c28)
        refine lv_iconst (v := nI 0) E.1 E.2.1 dX5_of_179 rfl ?_
        refine lv_goto (tgt := 187) E.1 E.2.1 dX5_of_180 (by decide) ?_
        exact tw_ireti E hr hlocks hT hS hw dX5_of_187
    replace hw := hw.2 c25
    by_cases c29 : i2 = nI 11
    · replace hw := hw.1 c29
      have hti : i2.toInt = 11 := by rw [c29]; decide
      refine lv_tableIn (tgt := 188) (off := 171) E.1 E.2.1 dX5_of_17 (by rw [hti]; decide) (by rw [hti]; decide) (by rw [hti]; rfl) (by decide) ?_
      refine lv_aload_n E.1 E.2.1 dX5_of_188 rfl (lv_at hl 0 rfl) ?_
      refine lv_aload_n E.1 E.2.1 dX5_of_189 rfl (lv_at hl 0 rfl) ?_
      refine lv_aload_n E.1 E.2.1 dX5_of_190 rfl (lv_at hl 0 rfl) ?_
      refine tw_get E hK hT 29 (Nat.le_of_ble_eq_true rfl) q1839 rfl (v := .int (sx z2 29)) rfl dX5_of_191 ?_
      refine lv_iload_n E.1 E.2.1 dX5_of_194 rfl (lv_at hl 1 rfl) ?_
      refine tw_callVi E hK hT hS (As := [.int (sx z2 29), .int (i1)]) (rest := [.ref (ta 73)]) (met_leafFor l G ta (d + 2) hw) (cwV 2 E.2.2.2.2 (lw_V q2363 q2365 qs113 q128 q2366) rfl rfl rfl hd_leafFor (rm_ok (by omega) (by decide))) rfl rfl hl.1 (Nat.le_of_ble_eq_true rfl) dX5_of_195 (fun r31 z30 H locs hw hT hS => ?_)
      refine tw_callVi E hK hT hS (As := [.int (r31)]) (rest := []) (met_leafNumber l G ta (d + 404) hw) (cwV 1 E.2.2.2.2 (lw_V q2375 q2377 qs116 q128 q2378) rfl rfl rfl hd_leafNumber (rm_ok (by omega) (by decide))) rfl rfl hl.1 (Nat.le_of_ble_eq_true rfl) dX5_of_198 (fun r33 z32 H locs hw hT hS => ?_)
      exact tw_ireti E hr hlocks hT hS hw dX5_of_201
    replace hw := hw.2 c29
    refine lv_tableOut (tgt := 202) E.1 E.2.1 dX5_of_17 (tab_out (fun j h1 h2 h3 => ?_)) (by decide) ?_
    · have hj : j = 0 ∨ j = 1 ∨ j = 2 ∨ j = 3 ∨ j = 4 ∨ j = 5 ∨ j = 6 ∨ j = 7 ∨ j = 8 ∨ j = 9 ∨ j = 10 ∨ j = 11 := by omega
      rcases hj with rfl | rfl | rfl | rfl | rfl | rfl | rfl | rfl | rfl | rfl | rfl | rfl
      · exact c5 (Int32.toInt_inj.mp (by rw [h3]; decide))
      · exact c6 (Int32.toInt_inj.mp (by rw [h3]; decide))
      · exact c7 (Int32.toInt_inj.mp (by rw [h3]; decide))
      · exact c8 (Int32.toInt_inj.mp (by rw [h3]; decide))
      · exact c9 (Int32.toInt_inj.mp (by rw [h3]; decide))
      · exact c10 (Int32.toInt_inj.mp (by rw [h3]; decide))
      · exact c13 (Int32.toInt_inj.mp (by rw [h3]; decide))
      · exact c16 (Int32.toInt_inj.mp (by rw [h3]; decide))
      · exact c19 (Int32.toInt_inj.mp (by rw [h3]; decide))
      · exact c22 (Int32.toInt_inj.mp (by rw [h3]; decide))
      · exact c25 (Int32.toInt_inj.mp (by rw [h3]; decide))
      · exact c29 (Int32.toInt_inj.mp (by rw [h3]; decide))
    · skip
      refine lv_bipush (v := (-2)) E.1 E.2.1 dX5_of_202 rfl ?_
      exact tw_ireti E hr hlocks hT hS hw dX5_of_204
  · replace hw := hw.2 (bi_z c4)
    refine lv_bipush (v := (-2)) E.1 E.2.1 dX5_of_13 rfl ?_
    exact tw_ireti E hr hlocks hT hS hw dX5_of_15
/-- listed(III)I -/
def wp_listed (post : Int32 → TS → Prop) (z0 : TS) (i1 : Int32) (i2 : Int32) (i3 : Int32) : Prop := ∃ J1 : TS → Bool → Prop, (∀ (z3 : TS) (b4 : Bool), J1 z3 b4 → ∀ z5, z5 = ux z3 2 (bi b4) → (¬ (sx z5 2) = (nI 1) → (¬ i2 = 0 → vp_in (((nI 6) * i1) + i3) 144 ∧ post (sf z5 41 (((nI 6) * i1) + i3).toNatClampNeg) z5) ∧ (i2 = 0 → vp_in (((nI 8) * i1) + i3) 192 ∧ post (sf z5 39 (((nI 8) * i1) + i3).toNatClampNeg) z5)) ∧ ((sx z5 2) = (nI 1) → post (nI 0) z5)) ∧ (∃ J8 : TS → Prop, (∀ (z10 : TS), J8 z10  → J1 z10 true) ∧ (wp_isStay (fun b12 z11 => (b12 = false → J8 z11 ) ∧ (b12 = true → wp_within (fun b15 z14 => (b15 = false → J8 z14 ) ∧ (b15 = true → ∃ J17 : TS → Int32 → Int32 → Prop, (∀ (z19 : TS) (x20 : Int32) (x21 : Int32), J17 z19 x20 x21 → wp_within (fun b23 z22 => (b23 = false → J8 z22 ) ∧ (b23 = true → J1 z22 false)) z19 x21 (nI 0) (x20 - (nI 1))) ∧ ((¬ i2 = 0 → vp_in (i1) 24 ∧ J17 z14 (sf z14 40 i1.toNatClampNeg) i3) ∧ (i2 = 0 → vp_in (i1) 24 ∧ J17 z14 (sf z14 38 i1.toNatClampNeg) i3)))) z11 i2 (nI 0) (nI 1))) z0 i1))
theorem hd_listed : yX5_listed.cls = RX5 ∧ yX5_listed.cls ≠ "java/lang/invoke/MethodHandle" ∧ yX5_listed.cls ≠ "java/lang/invoke/VarHandle" ∧ (parseMethodDescriptor yX5_listed.desc).map (fun d => d.parameters.length) = some 3 := by decide +kernel
set_option maxHeartbeats 4000000 in
theorem met_listed (l : Launch) (G : GP) (ta : Nat → Nat) (d : Nat) {post : Int32 → TS → Prop} {z0 : TS} {i1 : Int32} {i2 : Int32} {i3 : Int32} (hw : wp_listed post z0 i1 i2 i3) : Met l yX5_listed (ws_ yX5_listed cX5_listed 4 (some .int)) (rmd (d + 2) 0 0) (tPc G ta z0 [.ref (ta 73), .int (i1), .int (i2), .int (i3)]) (tQi G ta post) 0 0 (TA ta) := by
  unfold wp_listed at hw
  refine tw_met (by decide) rfl (Nat.le_of_ble_eq_true rfl) ?_
  intro p e s m args below meth c ls E hr hlocks hK hT hS hl
  replace hl : lv_has ls 4 [(0, .ref (ta 73)), (1, .int (i1)), (2, .int (i2)), (3, .int (i3))] := hl
  obtain ⟨J1, hj28, hw⟩ := hw
  have jh2 : ∀ (z3 : TS) (b4 : Bool), J1 z3 b4 → ∀ (H : Heap) (locs : List Loc) (ls : Array Slot), TW G ta z3 H → va_S (TA ta) s.heap H locs → lv_has ls 4 [(0, .ref (ta 73)), (1, .int (i1)), (2, .int (i2)), (3, .int (i3))] → W p l e (rmd (d + 2) 0 0) s m args below meth c H locs 0 0 (MQ below (tQi G ta post) args s 0 0 (TA ta)) (F0 m 52 ls [.int (bi b4), .ref (ta 73)]) := by
    intro z3 b4 hw H locs ls hT hS hl
    replace hw := hj28 z3 b4 hw
    refine tw_puti E hK hT hS 2 (Nat.le_of_ble_eq_true rfl) q1812 rfl rfl rfl rfl dX5_listed_52 (fun H locs hT hS => ?_)
    obtain ⟨z5, ez5⟩ : ∃ y, y = ux z3 2 (bi b4) := ⟨_, rfl⟩
    rw [← ez5] at hT
    replace hw := hw z5 ez5
    refine lv_aload_n E.1 E.2.1 dX5_listed_55 rfl (lv_at hl 0 rfl) ?_
    refine tw_get E hK hT 2 (Nat.le_of_ble_eq_true rfl) q1812 rfl (v := .int (sx z5 2)) rfl dX5_listed_56 ?_
    refine lv_iconst (v := nI 1) E.1 E.2.1 dX5_listed_59 rfl ?_
    refine lv_icmp_ne (tgt := 65) E.1 E.2.1 dX5_listed_60 (by decide) (fun c6 => ?_) (fun c6 => ?_)
    · replace hw := hw.1 (c6)
      refine lv_iload_n E.1 E.2.1 dX5_listed_65 rfl (lv_at hl 2 rfl) ?_
      refine lv_if_ne (tgt := 83) E.1 E.2.1 dX5_listed_66 (by decide) (fun c7 => ?_) (fun c7 => ?_)
      · replace hw := hw.1 (c7)
        refine lv_aload_n E.1 E.2.1 dX5_listed_83 rfl (lv_at hl 0 rfl) ?_
        refine tw_get E hK hT 41 (Nat.le_of_ble_eq_true rfl) q1851 rfl (v := .ref (ta 41)) rfl dX5_listed_84 ?_
        refine lv_bipush (v := nI 6) E.1 E.2.1 dX5_listed_87 rfl ?_
        refine lv_iload_n E.1 E.2.1 dX5_listed_89 rfl (lv_at hl 1 rfl) ?_
        refine lv_imul E.1 E.2.1 dX5_listed_90 ?_
        refine lv_iload_n E.1 E.2.1 dX5_listed_91 rfl (lv_at hl 3 rfl) ?_
        refine lv_iadd E.1 E.2.1 dX5_listed_92 ?_
        obtain ⟨hin, hw⟩ := hw
        refine tw_iald E hK hT 41 rfl hin dX5_listed_93 ?_
        exact tw_ireti E hr hlocks hT hS hw dX5_listed_94
      · replace hw := hw.2 (c7)
        refine lv_aload_n E.1 E.2.1 dX5_listed_69 rfl (lv_at hl 0 rfl) ?_
        refine tw_get E hK hT 39 (Nat.le_of_ble_eq_true rfl) q1849 rfl (v := .ref (ta 39)) rfl dX5_listed_70 ?_
        refine lv_bipush (v := nI 8) E.1 E.2.1 dX5_listed_73 rfl ?_
        refine lv_iload_n E.1 E.2.1 dX5_listed_75 rfl (lv_at hl 1 rfl) ?_
        refine lv_imul E.1 E.2.1 dX5_listed_76 ?_
        refine lv_iload_n E.1 E.2.1 dX5_listed_77 rfl (lv_at hl 3 rfl) ?_
        refine lv_iadd E.1 E.2.1 dX5_listed_78 ?_
        obtain ⟨hin, hw⟩ := hw
        refine tw_iald E hK hT 39 rfl hin dX5_listed_79 ?_
        refine lv_goto (tgt := 94) E.1 E.2.1 dX5_listed_80 (by decide) ?_
        exact tw_ireti E hr hlocks hT hS hw dX5_listed_94
    · replace hw := hw.2 (c6)
      refine lv_iconst (v := nI 0) E.1 E.2.1 dX5_listed_63 rfl ?_
      exact tw_ireti E hr hlocks hT hS hw dX5_listed_64
  obtain ⟨J8, hj27, hw⟩ := hw
  have jh9 : ∀ (z10 : TS), J8 z10  → ∀ (H : Heap) (locs : List Loc) (ls : Array Slot), TW G ta z10 H → va_S (TA ta) s.heap H locs → lv_has ls 4 [(0, .ref (ta 73)), (1, .int (i1)), (2, .int (i2)), (3, .int (i3))] → W p l e (rmd (d + 2) 0 0) s m args below meth c H locs 0 0 (MQ below (tQi G ta post) args s 0 0 (TA ta)) (F0 m 51 ls [.ref (ta 73)]) := by
    intro z10 hw H locs ls hT hS hl
    replace hw := hj27 z10 hw
    refine lv_iconst (v := nI 1) E.1 E.2.1 dX5_listed_51 rfl ?_
    exact jh2 _ _ hw _ _ _ hT hS (lv_sub hl [0, 1, 2, 3] rfl)
  refine lv_aload_n E.1 E.2.1 dX5_listed_0 rfl (lv_at hl 0 rfl) ?_
  refine lv_aload_n E.1 E.2.1 dX5_listed_1 rfl (lv_at hl 0 rfl) ?_
  refine lv_iload_n E.1 E.2.1 dX5_listed_2 rfl (lv_at hl 1 rfl) ?_
  refine tw_callVz E hK hT hS (As := [.int (i1)]) (rest := [.ref (ta 73)]) (met_isStay l G ta (d) hw) (cwV 1 E.2.2.2.2 (lw_V q2294 q2296 qs102 q128 q2297) rfl rfl rfl hd_isStay (rm_ok (by omega) (by decide))) rfl rfl hl.1 (Nat.le_of_ble_eq_true rfl) dX5_listed_3 (fun b12 z11 H locs hw hT hS => ?_)
  refine lv_if_eq (tgt := 51) E.1 E.2.1 dX5_listed_6 (by decide) (fun c13 => ?_) (fun c13 => ?_)
  · replace hw := hw.1 (bi_z c13)
    exact jh9 _ hw _ _ _ hT hS (lv_sub hl [0, 1, 2, 3] rfl)
  · replace hw := hw.2 (bi_n c13)
    refine lv_iload_n E.1 E.2.1 dX5_listed_9 rfl (lv_at hl 2 rfl) ?_
    refine lv_iconst (v := nI 0) E.1 E.2.1 dX5_listed_10 rfl ?_
    refine lv_iconst (v := nI 1) E.1 E.2.1 dX5_listed_11 rfl ?_
    refine tw_callSz E hK hT hS (As := [.int (i2), .int (nI 0), .int (nI 1)]) (rest := [.ref (ta 73)]) (met_within l G ta (d + 1) hw) (va_cwS 3 E.2.2.2.2 (lw_S q2048 q2049 q128 q2050) rfl rfl rfl hs_within (rm_ok (by omega) (by decide))) rfl rfl hl.1 (Nat.le_of_ble_eq_true rfl) dX5_listed_12 (fun b15 z14 H locs hw hT hS => ?_)
    refine lv_if_eq (tgt := 51) E.1 E.2.1 dX5_listed_15 (by decide) (fun c16 => ?_) (fun c16 => ?_)
    · replace hw := hw.1 (bi_z c16)
      exact jh9 _ hw _ _ _ hT hS (lv_sub hl [0, 1, 2, 3] rfl)
    · replace hw := hw.2 (bi_n c16)
      obtain ⟨J17, hj26, hw⟩ := hw
      have jh18 : ∀ (z19 : TS) (x20 : Int32) (x21 : Int32), J17 z19 x20 x21 → ∀ (H : Heap) (locs : List Loc) (ls : Array Slot), TW G ta z19 H → va_S (TA ta) s.heap H locs → lv_has ls 4 [(0, .ref (ta 73)), (1, .int (i1)), (2, .int (i2)), (3, .int (i3))] → W p l e (rmd (d + 2) 0 0) s m args below meth c H locs 0 0 (MQ below (tQi G ta post) args s 0 0 (TA ta)) (F0 m 39 ls [.int (x20), .int (nI 0), .int (x21), .ref (ta 73)]) := by
        intro z19 x20 x21 hw H locs ls hT hS hl
        replace hw := hj26 z19 x20 x21 hw
        refine lv_iconst (v := nI 1) E.1 E.2.1 dX5_listed_39 rfl ?_
        refine lv_isub E.1 E.2.1 dX5_listed_40 ?_
        refine tw_callSz E hK hT hS (As := [.int (x21), .int (nI 0), .int (x20 - (nI 1))]) (rest := [.ref (ta 73)]) (met_within l G ta (d + 1) hw) (va_cwS 3 E.2.2.2.2 (lw_S q2048 q2049 q128 q2050) rfl rfl rfl hs_within (rm_ok (by omega) (by decide))) rfl rfl hl.1 (Nat.le_of_ble_eq_true rfl) dX5_listed_41 (fun b23 z22 H locs hw hT hS => ?_)
        refine lv_if_eq (tgt := 51) E.1 E.2.1 dX5_listed_44 (by decide) (fun c24 => ?_) (fun c24 => ?_)
        · replace hw := hw.1 (bi_z c24)
          exact jh9 _ hw _ _ _ hT hS (lv_sub hl [0, 1, 2, 3] rfl)
        · replace hw := hw.2 (bi_n c24)
          refine lv_iconst (v := nI 0) E.1 E.2.1 dX5_listed_47 rfl ?_
          refine lv_goto (tgt := 52) E.1 E.2.1 dX5_listed_48 (by decide) ?_
          exact jh2 _ _ hw _ _ _ hT hS (lv_sub hl [0, 1, 2, 3] rfl)
      refine lv_iload_n E.1 E.2.1 dX5_listed_18 rfl (lv_at hl 3 rfl) ?_
      refine lv_iconst (v := nI 0) E.1 E.2.1 dX5_listed_19 rfl ?_
      refine lv_iload_n E.1 E.2.1 dX5_listed_20 rfl (lv_at hl 2 rfl) ?_
      refine lv_if_ne (tgt := 33) E.1 E.2.1 dX5_listed_21 (by decide) (fun c25 => ?_) (fun c25 => ?_)
      · replace hw := hw.1 (c25)
        refine lv_aload_n E.1 E.2.1 dX5_listed_33 rfl (lv_at hl 0 rfl) ?_
        refine tw_get E hK hT 40 (Nat.le_of_ble_eq_true rfl) q1850 rfl (v := .ref (ta 40)) rfl dX5_listed_34 ?_
        refine lv_iload_n E.1 E.2.1 dX5_listed_37 rfl (lv_at hl 1 rfl) ?_
        obtain ⟨hin, hw⟩ := hw
        refine tw_iald E hK hT 40 rfl hin dX5_listed_38 ?_
        exact jh18 _ _ _ hw _ _ _ hT hS (lv_sub hl [0, 1, 2, 3] rfl)
      · replace hw := hw.2 (c25)
        refine lv_aload_n E.1 E.2.1 dX5_listed_24 rfl (lv_at hl 0 rfl) ?_
        refine tw_get E hK hT 38 (Nat.le_of_ble_eq_true rfl) q1848 rfl (v := .ref (ta 38)) rfl dX5_listed_25 ?_
        refine lv_iload_n E.1 E.2.1 dX5_listed_28 rfl (lv_at hl 1 rfl) ?_
        obtain ⟨hin, hw⟩ := hw
        refine tw_iald E hK hT 38 rfl hin dX5_listed_29 ?_
        refine lv_goto (tgt := 39) E.1 E.2.1 dX5_listed_30 (by decide) ?_
        exact jh18 _ _ _ hw _ _ _ hT hS (lv_sub hl [0, 1, 2, 3] rfl)
/-- way(II)I -/
def wp_way (post : Int32 → TS → Prop) (z0 : TS) (i1 : Int32) (i2 : Int32) : Prop := ∀ z1, z1 = ux z0 2 (nI 0) → wp_isStay (fun b3 z2 => (b3 = true → wp_leafFor (fun r6 z5 => (r6 < 0 → post ((-1)) z5) ∧ (¬ r6 < 0 → wp_within (fun b9 z8 => (b9 = false → post ((-1)) z8) ∧ (b9 = true → vp_in (i2) 40 ∧ post (sf z8 64 i2.toNatClampNeg) z8)) z5 i2 (nI 0) ((sx z5 65) - (nI 1)))) z2 (sx z2 29) i1) ∧ (b3 = false → post ((-1)) z2)) z1 i1
theorem hd_way : yX5_way.cls = RX5 ∧ yX5_way.cls ≠ "java/lang/invoke/MethodHandle" ∧ yX5_way.cls ≠ "java/lang/invoke/VarHandle" ∧ (parseMethodDescriptor yX5_way.desc).map (fun d => d.parameters.length) = some 2 := by decide +kernel
set_option maxHeartbeats 4000000 in
theorem met_way (l : Launch) (G : GP) (ta : Nat → Nat) (d : Nat) {post : Int32 → TS → Prop} {z0 : TS} {i1 : Int32} {i2 : Int32} (hw : wp_way post z0 i1 i2) : Met l yX5_way (ws_ yX5_way cX5_way 4 (some .int)) (rmd (d + 404) 0 0) (tPc G ta z0 [.ref (ta 73), .int (i1), .int (i2)]) (tQi G ta post) 0 0 (TA ta) := by
  unfold wp_way at hw
  refine tw_met (by decide) rfl (Nat.le_of_ble_eq_true rfl) ?_
  intro p e s m args below meth c ls E hr hlocks hK hT hS hl
  replace hl : lv_has ls 4 [(0, .ref (ta 73)), (1, .int (i1)), (2, .int (i2))] := hl
  refine lv_aload_n E.1 E.2.1 dX5_way_0 rfl (lv_at hl 0 rfl) ?_
  refine lv_iconst (v := nI 0) E.1 E.2.1 dX5_way_1 rfl ?_
  refine tw_puti E hK hT hS 2 (Nat.le_of_ble_eq_true rfl) q1812 rfl rfl rfl rfl dX5_way_2 (fun H locs hT hS => ?_)
  obtain ⟨z1, ez1⟩ : ∃ y, y = ux z0 2 (nI 0) := ⟨_, rfl⟩
  rw [← ez1] at hT
  replace hw := hw z1 ez1
  refine lv_aload_n E.1 E.2.1 dX5_way_5 rfl (lv_at hl 0 rfl) ?_
  refine lv_iload_n E.1 E.2.1 dX5_way_6 rfl (lv_at hl 1 rfl) ?_
  refine tw_callVz E hK hT hS (As := [.int (i1)]) (rest := []) (met_isStay l G ta (d + 402) hw) (cwV 1 E.2.2.2.2 (lw_V q2294 q2296 qs102 q128 q2297) rfl rfl rfl hd_isStay (rm_ok (by omega) (by decide))) rfl rfl hl.1 (Nat.le_of_ble_eq_true rfl) dX5_way_7 (fun b3 z2 H locs hw hT hS => ?_)
  refine lv_if_ne (tgt := 15) E.1 E.2.1 dX5_way_10 (by decide) (fun c4 => ?_) (fun c4 => ?_)
  · replace hw := hw.1 (bi_n c4)
    refine lv_aload_n E.1 E.2.1 dX5_way_15 rfl (lv_at hl 0 rfl) ?_
    refine lv_aload_n E.1 E.2.1 dX5_way_16 rfl (lv_at hl 0 rfl) ?_
    refine tw_get E hK hT 29 (Nat.le_of_ble_eq_true rfl) q1839 rfl (v := .int (sx z2 29)) rfl dX5_way_17 ?_
    refine lv_iload_n E.1 E.2.1 dX5_way_20 rfl (lv_at hl 1 rfl) ?_
    refine tw_callVi E hK hT hS (As := [.int (sx z2 29), .int (i1)]) (rest := []) (met_leafFor l G ta (d) hw) (cwV 2 E.2.2.2.2 (lw_V q2363 q2365 qs113 q128 q2366) rfl rfl rfl hd_leafFor (rm_ok (by omega) (by decide))) rfl rfl hl.1 (Nat.le_of_ble_eq_true rfl) dX5_way_21 (fun r6 z5 H locs hw hT hS => ?_)
    refine lv_istore_n (lv' := [(3, .int (r6)), (0, .ref (ta 73)), (1, .int (i1)), (2, .int (i2))]) E.1 E.2.1 dX5_way_24 rfl hl (Nat.le_of_ble_eq_true rfl) rfl (fun ls hl => ?_)
    refine lv_iload_n E.1 E.2.1 dX5_way_25 rfl (lv_at hl 0 rfl) ?_
    refine lv_if_lt (tgt := 52) E.1 E.2.1 dX5_way_26 (by decide) (fun c7 => ?_) (fun c7 => ?_)
    · replace hw := hw.1 (c7)
      refine lv_iconst (v := (-1)) E.1 E.2.1 dX5_way_52 rfl ?_
      exact tw_ireti E hr hlocks hT hS hw dX5_way_53
    · replace hw := hw.2 (c7)
      refine lv_iload_n E.1 E.2.1 dX5_way_29 rfl (lv_at hl 3 rfl) ?_
      refine lv_iconst (v := nI 0) E.1 E.2.1 dX5_way_30 rfl ?_
      refine lv_aload_n E.1 E.2.1 dX5_way_31 rfl (lv_at hl 1 rfl) ?_
      refine tw_get E hK hT 65 (Nat.le_of_ble_eq_true rfl) q1875 rfl (v := .int (sx z5 65)) rfl dX5_way_32 ?_
      refine lv_iconst (v := nI 1) E.1 E.2.1 dX5_way_35 rfl ?_
      refine lv_isub E.1 E.2.1 dX5_way_36 ?_
      refine tw_callSz E hK hT hS (As := [.int (i2), .int (nI 0), .int ((sx z5 65) - (nI 1))]) (rest := []) (met_within l G ta (d + 403) hw) (va_cwS 3 E.2.2.2.2 (lw_S q2048 q2049 q128 q2050) rfl rfl rfl hs_within (rm_ok (by omega) (by decide))) rfl rfl hl.1 (Nat.le_of_ble_eq_true rfl) dX5_way_37 (fun b9 z8 H locs hw hT hS => ?_)
      refine lv_if_eq (tgt := 52) E.1 E.2.1 dX5_way_40 (by decide) (fun c10 => ?_) (fun c10 => ?_)
      · replace hw := hw.1 (bi_z c10)
        refine lv_iconst (v := (-1)) E.1 E.2.1 dX5_way_52 rfl ?_
        exact tw_ireti E hr hlocks hT hS hw dX5_way_53
      · replace hw := hw.2 (bi_n c10)
        refine lv_aload_n E.1 E.2.1 dX5_way_43 rfl (lv_at hl 1 rfl) ?_
        refine tw_get E hK hT 64 (Nat.le_of_ble_eq_true rfl) q1874 rfl (v := .ref (ta 64)) rfl dX5_way_44 ?_
        refine lv_iload_n E.1 E.2.1 dX5_way_47 rfl (lv_at hl 3 rfl) ?_
        obtain ⟨hin, hw⟩ := hw
        refine tw_iald E hK hT 64 rfl hin dX5_way_48 ?_
        refine lv_goto (tgt := 53) E.1 E.2.1 dX5_way_49 (by decide) ?_
        exact tw_ireti E hr hlocks hT hS hw dX5_way_53
  · replace hw := hw.2 (bi_z c4)
    refine lv_iconst (v := (-1)) E.1 E.2.1 dX5_way_13 rfl ?_
    exact tw_ireti E hr hlocks hT hS hw dX5_way_14
/-- partner(III)I -/
def wp_partner (post : Int32 → TS → Prop) (z0 : TS) (i1 : Int32) (i2 : Int32) (i3 : Int32) : Prop := ∀ z1, z1 = ux z0 2 (nI 0) → wp_isStay (fun b3 z2 => (b3 = false → post ((-1)) z2) ∧ (b3 = true → wp_within (fun b6 z5 => (b6 = false → post ((-1)) z5) ∧ (b6 = true → vp_in (i1) 24 ∧ wp_find (fun r9 z8 => (0 ≤ r9 → (¬ i3 = 0 → wp_counts (fun b13 z12 => (b13 = false → post (nI 0) z12) ∧ (b13 = true → post (nI 1) z12)) z8 (sx z8 29) i1 i2) ∧ (i3 = 0 → wp_partnerFor (fun r16 z15 => post r16 z15) z8 (sx z8 29) i2)) ∧ (¬ 0 ≤ r9 → post ((-1)) z8)) z5 39 ((nI 8) * i1) (sf z5 38 i1.toNatClampNeg) i2)) z2 i3 (nI 0) (nI 1))) z1 i1
theorem hd_partner : yX5_partner.cls = RX5 ∧ yX5_partner.cls ≠ "java/lang/invoke/MethodHandle" ∧ yX5_partner.cls ≠ "java/lang/invoke/VarHandle" ∧ (parseMethodDescriptor yX5_partner.desc).map (fun d => d.parameters.length) = some 3 := by decide +kernel
set_option maxHeartbeats 4000000 in
theorem met_partner (l : Launch) (G : GP) (ta : Nat → Nat) (d : Nat) {post : Int32 → TS → Prop} {z0 : TS} {i1 : Int32} {i2 : Int32} {i3 : Int32} (hw : wp_partner post z0 i1 i2 i3) : Met l yX5_partner (ws_ yX5_partner cX5_partner 4 (some .int)) (rmd (d + 3) 0 0) (tPc G ta z0 [.ref (ta 73), .int (i1), .int (i2), .int (i3)]) (tQi G ta post) 0 0 (TA ta) := by
  unfold wp_partner at hw
  refine tw_met (by decide) rfl (Nat.le_of_ble_eq_true rfl) ?_
  intro p e s m args below meth c ls E hr hlocks hK hT hS hl
  replace hl : lv_has ls 4 [(0, .ref (ta 73)), (1, .int (i1)), (2, .int (i2)), (3, .int (i3))] := hl
  refine lv_aload_n E.1 E.2.1 dX5_partner_0 rfl (lv_at hl 0 rfl) ?_
  refine lv_iconst (v := nI 0) E.1 E.2.1 dX5_partner_1 rfl ?_
  refine tw_puti E hK hT hS 2 (Nat.le_of_ble_eq_true rfl) q1812 rfl rfl rfl rfl dX5_partner_2 (fun H locs hT hS => ?_)
  obtain ⟨z1, ez1⟩ : ∃ y, y = ux z0 2 (nI 0) := ⟨_, rfl⟩
  rw [← ez1] at hT
  replace hw := hw z1 ez1
  refine lv_aload_n E.1 E.2.1 dX5_partner_5 rfl (lv_at hl 0 rfl) ?_
  refine lv_iload_n E.1 E.2.1 dX5_partner_6 rfl (lv_at hl 1 rfl) ?_
  refine tw_callVz E hK hT hS (As := [.int (i1)]) (rest := []) (met_isStay l G ta (d + 1) hw) (cwV 1 E.2.2.2.2 (lw_V q2294 q2296 qs102 q128 q2297) rfl rfl rfl hd_isStay (rm_ok (by omega) (by decide))) rfl rfl hl.1 (Nat.le_of_ble_eq_true rfl) dX5_partner_7 (fun b3 z2 H locs hw hT hS => ?_)
  refine lv_if_eq (tgt := 43) E.1 E.2.1 dX5_partner_10 (by decide) (fun c4 => ?_) (fun c4 => ?_)
  · replace hw := hw.1 (bi_z c4)
    refine lv_iconst (v := (-1)) E.1 E.2.1 dX5_partner_43 rfl ?_
    exact tw_ireti E hr hlocks hT hS hw dX5_partner_44
  · replace hw := hw.2 (bi_n c4)
    refine lv_iload_n E.1 E.2.1 dX5_partner_13 rfl (lv_at hl 3 rfl) ?_
    refine lv_iconst (v := nI 0) E.1 E.2.1 dX5_partner_14 rfl ?_
    refine lv_iconst (v := nI 1) E.1 E.2.1 dX5_partner_15 rfl ?_
    refine tw_callSz E hK hT hS (As := [.int (i3), .int (nI 0), .int (nI 1)]) (rest := []) (met_within l G ta (d + 2) hw) (va_cwS 3 E.2.2.2.2 (lw_S q2048 q2049 q128 q2050) rfl rfl rfl hs_within (rm_ok (by omega) (by decide))) rfl rfl hl.1 (Nat.le_of_ble_eq_true rfl) dX5_partner_16 (fun b6 z5 H locs hw hT hS => ?_)
    refine lv_if_eq (tgt := 43) E.1 E.2.1 dX5_partner_19 (by decide) (fun c7 => ?_) (fun c7 => ?_)
    · replace hw := hw.1 (bi_z c7)
      refine lv_iconst (v := (-1)) E.1 E.2.1 dX5_partner_43 rfl ?_
      exact tw_ireti E hr hlocks hT hS hw dX5_partner_44
    · replace hw := hw.2 (bi_n c7)
      refine lv_aload_n E.1 E.2.1 dX5_partner_22 rfl (lv_at hl 0 rfl) ?_
      refine tw_get E hK hT 39 (Nat.le_of_ble_eq_true rfl) q1849 rfl (v := .ref (ta 39)) rfl dX5_partner_23 ?_
      refine lv_bipush (v := nI 8) E.1 E.2.1 dX5_partner_26 rfl ?_
      refine lv_iload_n E.1 E.2.1 dX5_partner_28 rfl (lv_at hl 1 rfl) ?_
      refine lv_imul E.1 E.2.1 dX5_partner_29 ?_
      refine lv_aload_n E.1 E.2.1 dX5_partner_30 rfl (lv_at hl 0 rfl) ?_
      refine tw_get E hK hT 38 (Nat.le_of_ble_eq_true rfl) q1848 rfl (v := .ref (ta 38)) rfl dX5_partner_31 ?_
      refine lv_iload_n E.1 E.2.1 dX5_partner_34 rfl (lv_at hl 1 rfl) ?_
      obtain ⟨hin, hw⟩ := hw
      refine tw_iald E hK hT 38 rfl hin dX5_partner_35 ?_
      refine lv_iload_n E.1 E.2.1 dX5_partner_36 rfl (lv_at hl 2 rfl) ?_
      refine tw_callSi E hK hT hS (As := [.ref (ta 39), .int ((nI 8) * i1), .int (sf z5 38 i1.toNatClampNeg), .int (i2)]) (rest := []) (met_find l G ta (d + 2) hw) (va_cwS 4 E.2.2.2.2 (lw_S q2298 q2299 q128 q2300) rfl rfl rfl hs_find (rm_ok (by omega) (by decide))) rfl rfl hl.1 (Nat.le_of_ble_eq_true rfl) dX5_partner_37 (fun r9 z8 H locs hw hT hS => ?_)
      refine lv_if_ge (tgt := 45) E.1 E.2.1 dX5_partner_40 (by decide) (fun c10 => ?_) (fun c10 => ?_)
      · replace hw := hw.1 (c10)
        refine lv_iload_n E.1 E.2.1 dX5_partner_45 rfl (lv_at hl 3 rfl) ?_
        refine lv_if_ne (tgt := 61) E.1 E.2.1 dX5_partner_46 (by decide) (fun c11 => ?_) (fun c11 => ?_)
        · replace hw := hw.1 (c11)
          refine lv_aload_n E.1 E.2.1 dX5_partner_61 rfl (lv_at hl 0 rfl) ?_
          refine lv_aload_n E.1 E.2.1 dX5_partner_62 rfl (lv_at hl 0 rfl) ?_
          refine tw_get E hK hT 29 (Nat.le_of_ble_eq_true rfl) q1839 rfl (v := .int (sx z8 29)) rfl dX5_partner_63 ?_
          refine lv_iload_n E.1 E.2.1 dX5_partner_66 rfl (lv_at hl 1 rfl) ?_
          refine lv_iload_n E.1 E.2.1 dX5_partner_67 rfl (lv_at hl 2 rfl) ?_
          refine tw_callVz E hK hT hS (As := [.int (sx z8 29), .int (i1), .int (i2)]) (rest := []) (met_counts l G ta (d) hw) (cwV 3 E.2.2.2.2 (lw_V q2347 q2349 qs109 q128 q2350) rfl rfl rfl hd_counts (rm_ok (by omega) (by decide))) rfl rfl hl.1 (Nat.le_of_ble_eq_true rfl) dX5_partner_68 (fun b13 z12 H locs hw hT hS => ?_)
          refine lv_if_eq (tgt := 78) E.1 E.2.1 dX5_partner_71 (by decide) (fun c14 => ?_) (fun c14 => ?_)
          · replace hw := hw.1 (bi_z c14)
            refine lv_iconst (v := nI 0) E.1 E.2.1 dX5_partner_78 rfl ?_
            exact tw_ireti E hr hlocks hT hS hw dX5_partner_79
          · replace hw := hw.2 (bi_n c14)
            refine lv_iconst (v := nI 1) E.1 E.2.1 dX5_partner_74 rfl ?_
            refine lv_goto (tgt := 79) E.1 E.2.1 dX5_partner_75 (by decide) ?_
            exact tw_ireti E hr hlocks hT hS hw dX5_partner_79
        · replace hw := hw.2 (c11)
          refine lv_aload_n E.1 E.2.1 dX5_partner_49 rfl (lv_at hl 0 rfl) ?_
          refine lv_aload_n E.1 E.2.1 dX5_partner_50 rfl (lv_at hl 0 rfl) ?_
          refine tw_get E hK hT 29 (Nat.le_of_ble_eq_true rfl) q1839 rfl (v := .int (sx z8 29)) rfl dX5_partner_51 ?_
          refine lv_iload_n E.1 E.2.1 dX5_partner_54 rfl (lv_at hl 2 rfl) ?_
          refine tw_callVi E hK hT hS (As := [.int (sx z8 29), .int (i2)]) (rest := []) (met_partnerFor l G ta (d + 1) hw) (cwV 2 E.2.2.2.2 (lw_V q2351 q2353 qs110 q128 q2354) rfl rfl rfl hd_partnerFor (rm_ok (by omega) (by decide))) rfl rfl hl.1 (Nat.le_of_ble_eq_true rfl) dX5_partner_55 (fun r16 z15 H locs hw hT hS => ?_)
          refine lv_goto (tgt := 79) E.1 E.2.1 dX5_partner_58 (by decide) ?_
          exact tw_ireti E hr hlocks hT hS hw dX5_partner_79
      · replace hw := hw.2 (c10)
        refine lv_iconst (v := (-1)) E.1 E.2.1 dX5_partner_43 rfl ?_
        exact tw_ireti E hr hlocks hT hS hw dX5_partner_44
/-- with(II)I -/
def wp_with (post : Int32 → TS → Prop) (z0 : TS) (i1 : Int32) (i2 : Int32) : Prop := ∀ z1, z1 = ux z0 2 (nI 0) → wp_canCome (fun b3 z2 => (b3 = true → wp_adds (fun z5 => wp_classFor (fun r7 z6 => wp_takes (fun z8 => post r7 z8) z6 i1 i2) z5 (sx z5 29) i1) z2 i1 i2) ∧ (b3 = false → post ((-2)) z2)) z1 i1 i2
theorem hd_with : yX5_with.cls = RX5 ∧ yX5_with.cls ≠ "java/lang/invoke/MethodHandle" ∧ yX5_with.cls ≠ "java/lang/invoke/VarHandle" ∧ (parseMethodDescriptor yX5_with.desc).map (fun d => d.parameters.length) = some 2 := by decide +kernel
set_option maxHeartbeats 4000000 in
theorem met_with (l : Launch) (G : GP) (ta : Nat → Nat) (d : Nat) {post : Int32 → TS → Prop} {z0 : TS} {i1 : Int32} {i2 : Int32} (hw : wp_with post z0 i1 i2) : Met l yX5_with (ws_ yX5_with cX5_with 4 (some .int)) (rmd (d + 405) 0 0) (tPc G ta z0 [.ref (ta 73), .int (i1), .int (i2)]) (tQi G ta post) 0 0 (TA ta) := by
  unfold wp_with at hw
  refine tw_met (by decide) rfl (Nat.le_of_ble_eq_true rfl) ?_
  intro p e s m args below meth c ls E hr hlocks hK hT hS hl
  replace hl : lv_has ls 4 [(0, .ref (ta 73)), (1, .int (i1)), (2, .int (i2))] := hl
  refine lv_aload_n E.1 E.2.1 dX5_with_0 rfl (lv_at hl 0 rfl) ?_
  refine lv_iconst (v := nI 0) E.1 E.2.1 dX5_with_1 rfl ?_
  refine tw_puti E hK hT hS 2 (Nat.le_of_ble_eq_true rfl) q1812 rfl rfl rfl rfl dX5_with_2 (fun H locs hT hS => ?_)
  obtain ⟨z1, ez1⟩ : ∃ y, y = ux z0 2 (nI 0) := ⟨_, rfl⟩
  rw [← ez1] at hT
  replace hw := hw z1 ez1
  refine lv_aload_n E.1 E.2.1 dX5_with_5 rfl (lv_at hl 0 rfl) ?_
  refine lv_iload_n E.1 E.2.1 dX5_with_6 rfl (lv_at hl 1 rfl) ?_
  refine lv_iload_n E.1 E.2.1 dX5_with_7 rfl (lv_at hl 2 rfl) ?_
  refine tw_callVz E hK hT hS (As := [.int (i1), .int (i2)]) (rest := []) (met_canCome l G ta (d + 402) hw) (cwV 2 E.2.2.2.2 (lw_V q2290 q2292 qs101 q128 q2293) rfl rfl rfl hd_canCome (rm_ok (by omega) (by decide))) rfl rfl hl.1 (Nat.le_of_ble_eq_true rfl) dX5_with_8 (fun b3 z2 H locs hw hT hS => ?_)
  refine lv_if_ne (tgt := 17) E.1 E.2.1 dX5_with_11 (by decide) (fun c4 => ?_) (fun c4 => ?_)
  · replace hw := hw.1 (bi_n c4)
    refine lv_aload_n E.1 E.2.1 dX5_with_17 rfl (lv_at hl 0 rfl) ?_
    refine lv_iload_n E.1 E.2.1 dX5_with_18 rfl (lv_at hl 1 rfl) ?_
    refine lv_iload_n E.1 E.2.1 dX5_with_19 rfl (lv_at hl 2 rfl) ?_
    refine tw_callVv E hK hT hS (As := [.int (i1), .int (i2)]) (rest := []) (met_adds l G ta (d + 403) hw) (cwV 2 E.2.2.2.2 (lw_V q2301 q2303 qs103 q128 q2304) rfl rfl rfl hd_adds (rm_ok (by omega) (by decide))) rfl rfl hl.1 (Nat.le_of_ble_eq_true rfl) dX5_with_20 (fun z5 H locs hw hT hS => ?_)
    refine lv_aload_n E.1 E.2.1 dX5_with_23 rfl (lv_at hl 0 rfl) ?_
    refine lv_aload_n E.1 E.2.1 dX5_with_24 rfl (lv_at hl 0 rfl) ?_
    refine tw_get E hK hT 29 (Nat.le_of_ble_eq_true rfl) q1839 rfl (v := .int (sx z5 29)) rfl dX5_with_25 ?_
    refine lv_iload_n E.1 E.2.1 dX5_with_28 rfl (lv_at hl 1 rfl) ?_
    refine tw_callVi E hK hT hS (As := [.int (sx z5 29), .int (i1)]) (rest := []) (met_classFor l G ta (d) hw) (cwV 2 E.2.2.2.2 (lw_V q2359 q2361 qs112 q128 q2362) rfl rfl rfl hd_classFor (rm_ok (by omega) (by decide))) rfl rfl hl.1 (Nat.le_of_ble_eq_true rfl) dX5_with_29 (fun r7 z6 H locs hw hT hS => ?_)
    refine lv_istore_n (lv' := [(3, .int (r7)), (0, .ref (ta 73)), (1, .int (i1)), (2, .int (i2))]) E.1 E.2.1 dX5_with_32 rfl hl (Nat.le_of_ble_eq_true rfl) rfl (fun ls hl => ?_)
    refine lv_aload_n E.1 E.2.1 dX5_with_33 rfl (lv_at hl 1 rfl) ?_
    refine lv_iload_n E.1 E.2.1 dX5_with_34 rfl (lv_at hl 2 rfl) ?_
    refine lv_iload_n E.1 E.2.1 dX5_with_35 rfl (lv_at hl 3 rfl) ?_
    refine tw_callVv E hK hT hS (As := [.int (i1), .int (i2)]) (rest := []) (met_takes l G ta (d + 402) hw) (cwV 2 E.2.2.2.2 (lw_V q2316 q2318 qs105 q128 q2319) rfl rfl rfl hd_takes (rm_ok (by omega) (by decide))) rfl rfl hl.1 (Nat.le_of_ble_eq_true rfl) dX5_with_36 (fun z8 H locs hw hT hS => ?_)
    refine lv_iload_n E.1 E.2.1 dX5_with_39 rfl (lv_at hl 0 rfl) ?_
    exact tw_ireti E hr hlocks hT hS hw dX5_with_40
  · replace hw := hw.2 (bi_z c4)
    refine lv_bipush (v := (-2)) E.1 E.2.1 dX5_with_14 rfl ?_
    exact tw_ireti E hr hlocks hT hS hw dX5_with_16
/-- classWithout(II)I -/
def wp_classWithout (post : Int32 → TS → Prop) (z0 : TS) (i1 : Int32) (i2 : Int32) : Prop := wp_takes (fun z1 => wp_classFor (fun r3 z2 => wp_adds (fun z4 => post r3 z4) z2 i1 i2) z1 (sx z1 29) i1) z0 i1 i2
theorem hd_classWithout : yX5_classWithout.cls = RX5 ∧ yX5_classWithout.cls ≠ "java/lang/invoke/MethodHandle" ∧ yX5_classWithout.cls ≠ "java/lang/invoke/VarHandle" ∧ (parseMethodDescriptor yX5_classWithout.desc).map (fun d => d.parameters.length) = some 2 := by decide +kernel
set_option maxHeartbeats 4000000 in
theorem met_classWithout (l : Launch) (G : GP) (ta : Nat → Nat) (d : Nat) {post : Int32 → TS → Prop} {z0 : TS} {i1 : Int32} {i2 : Int32} (hw : wp_classWithout post z0 i1 i2) : Met l yX5_classWithout (ws_ yX5_classWithout cX5_classWithout 4 (some .int)) (rmd (d + 405) 0 0) (tPc G ta z0 [.ref (ta 73), .int (i1), .int (i2)]) (tQi G ta post) 0 0 (TA ta) := by
  unfold wp_classWithout at hw
  refine tw_met (by decide) rfl (Nat.le_of_ble_eq_true rfl) ?_
  intro p e s m args below meth c ls E hr hlocks hK hT hS hl
  replace hl : lv_has ls 4 [(0, .ref (ta 73)), (1, .int (i1)), (2, .int (i2))] := hl
  refine lv_aload_n E.1 E.2.1 dX5_classWithout_0 rfl (lv_at hl 0 rfl) ?_
  refine lv_iload_n E.1 E.2.1 dX5_classWithout_1 rfl (lv_at hl 1 rfl) ?_
  refine lv_iload_n E.1 E.2.1 dX5_classWithout_2 rfl (lv_at hl 2 rfl) ?_
  refine tw_callVv E hK hT hS (As := [.int (i1), .int (i2)]) (rest := []) (met_takes l G ta (d + 402) hw) (cwV 2 E.2.2.2.2 (lw_V q2316 q2318 qs105 q128 q2319) rfl rfl rfl hd_takes (rm_ok (by omega) (by decide))) rfl rfl hl.1 (Nat.le_of_ble_eq_true rfl) dX5_classWithout_3 (fun z1 H locs hw hT hS => ?_)
  refine lv_aload_n E.1 E.2.1 dX5_classWithout_6 rfl (lv_at hl 0 rfl) ?_
  refine lv_aload_n E.1 E.2.1 dX5_classWithout_7 rfl (lv_at hl 0 rfl) ?_
  refine tw_get E hK hT 29 (Nat.le_of_ble_eq_true rfl) q1839 rfl (v := .int (sx z1 29)) rfl dX5_classWithout_8 ?_
  refine lv_iload_n E.1 E.2.1 dX5_classWithout_11 rfl (lv_at hl 1 rfl) ?_
  refine tw_callVi E hK hT hS (As := [.int (sx z1 29), .int (i1)]) (rest := []) (met_classFor l G ta (d) hw) (cwV 2 E.2.2.2.2 (lw_V q2359 q2361 qs112 q128 q2362) rfl rfl rfl hd_classFor (rm_ok (by omega) (by decide))) rfl rfl hl.1 (Nat.le_of_ble_eq_true rfl) dX5_classWithout_12 (fun r3 z2 H locs hw hT hS => ?_)
  refine lv_istore_n (lv' := [(3, .int (r3)), (0, .ref (ta 73)), (1, .int (i1)), (2, .int (i2))]) E.1 E.2.1 dX5_classWithout_15 rfl hl (Nat.le_of_ble_eq_true rfl) rfl (fun ls hl => ?_)
  refine lv_aload_n E.1 E.2.1 dX5_classWithout_16 rfl (lv_at hl 1 rfl) ?_
  refine lv_iload_n E.1 E.2.1 dX5_classWithout_17 rfl (lv_at hl 2 rfl) ?_
  refine lv_iload_n E.1 E.2.1 dX5_classWithout_18 rfl (lv_at hl 3 rfl) ?_
  refine tw_callVv E hK hT hS (As := [.int (i1), .int (i2)]) (rest := []) (met_adds l G ta (d + 403) hw) (cwV 2 E.2.2.2.2 (lw_V q2301 q2303 qs103 q128 q2304) rfl rfl rfl hd_adds (rm_ok (by omega) (by decide))) rfl rfl hl.1 (Nat.le_of_ble_eq_true rfl) dX5_classWithout_19 (fun z4 H locs hw hT hS => ?_)
  refine lv_iload_n E.1 E.2.1 dX5_classWithout_22 rfl (lv_at hl 0 rfl) ?_
  exact tw_ireti E hr hlocks hT hS hw dX5_classWithout_23
/-- without(II)I -/
def wp_without (post : Int32 → TS → Prop) (z0 : TS) (i1 : Int32) (i2 : Int32) : Prop := ∀ z1, z1 = ux z0 2 (nI 0) → wp_canGo (fun b3 z2 => (b3 = false → post ((-2)) z2) ∧ (b3 = true → wp_classWithout (fun r6 z5 => post r6 z5) z2 i1 i2)) z1 i1 i2
theorem hd_without : yX5_without.cls = RX5 ∧ yX5_without.cls ≠ "java/lang/invoke/MethodHandle" ∧ yX5_without.cls ≠ "java/lang/invoke/VarHandle" ∧ (parseMethodDescriptor yX5_without.desc).map (fun d => d.parameters.length) = some 2 := by decide +kernel
set_option maxHeartbeats 4000000 in
theorem met_without (l : Launch) (G : GP) (ta : Nat → Nat) (d : Nat) {post : Int32 → TS → Prop} {z0 : TS} {i1 : Int32} {i2 : Int32} (hw : wp_without post z0 i1 i2) : Met l yX5_without (ws_ yX5_without cX5_without 3 (some .int)) (rmd (d + 406) 0 0) (tPc G ta z0 [.ref (ta 73), .int (i1), .int (i2)]) (tQi G ta post) 0 0 (TA ta) := by
  unfold wp_without at hw
  refine tw_met (by decide) rfl (Nat.le_of_ble_eq_true rfl) ?_
  intro p e s m args below meth c ls E hr hlocks hK hT hS hl
  replace hl : lv_has ls 3 [(0, .ref (ta 73)), (1, .int (i1)), (2, .int (i2))] := hl
  refine lv_aload_n E.1 E.2.1 dX5_without_0 rfl (lv_at hl 0 rfl) ?_
  refine lv_iconst (v := nI 0) E.1 E.2.1 dX5_without_1 rfl ?_
  refine tw_puti E hK hT hS 2 (Nat.le_of_ble_eq_true rfl) q1812 rfl rfl rfl rfl dX5_without_2 (fun H locs hT hS => ?_)
  obtain ⟨z1, ez1⟩ : ∃ y, y = ux z0 2 (nI 0) := ⟨_, rfl⟩
  rw [← ez1] at hT
  replace hw := hw z1 ez1
  refine lv_aload_n E.1 E.2.1 dX5_without_5 rfl (lv_at hl 0 rfl) ?_
  refine lv_iload_n E.1 E.2.1 dX5_without_6 rfl (lv_at hl 1 rfl) ?_
  refine lv_iload_n E.1 E.2.1 dX5_without_7 rfl (lv_at hl 2 rfl) ?_
  refine tw_callVz E hK hT hS (As := [.int (i1), .int (i2)]) (rest := []) (met_canGo l G ta (d + 403) hw) (cwV 2 E.2.2.2.2 (lw_V q2312 q2314 qs104 q128 q2315) rfl rfl rfl hd_canGo (rm_ok (by omega) (by decide))) rfl rfl hl.1 (Nat.le_of_ble_eq_true rfl) dX5_without_8 (fun b3 z2 H locs hw hT hS => ?_)
  refine lv_if_eq (tgt := 23) E.1 E.2.1 dX5_without_11 (by decide) (fun c4 => ?_) (fun c4 => ?_)
  · replace hw := hw.1 (bi_z c4)
    refine lv_bipush (v := (-2)) E.1 E.2.1 dX5_without_23 rfl ?_
    exact tw_ireti E hr hlocks hT hS hw dX5_without_25
  · replace hw := hw.2 (bi_n c4)
    refine lv_aload_n E.1 E.2.1 dX5_without_14 rfl (lv_at hl 0 rfl) ?_
    refine lv_iload_n E.1 E.2.1 dX5_without_15 rfl (lv_at hl 1 rfl) ?_
    refine lv_iload_n E.1 E.2.1 dX5_without_16 rfl (lv_at hl 2 rfl) ?_
    refine tw_callVi E hK hT hS (As := [.int (i1), .int (i2)]) (rest := []) (met_classWithout l G ta (d) hw) (cwV 2 E.2.2.2.2 (lw_V q2399 q2401 qs117 q128 q2402) rfl rfl rfl hd_classWithout (rm_ok (by omega) (by decide))) rfl rfl hl.1 (Nat.le_of_ble_eq_true rfl) dX5_without_17 (fun r6 z5 H locs hw hT hS => ?_)
    refine lv_goto (tgt := 25) E.1 E.2.1 dX5_without_20 (by decide) ?_
    exact tw_ireti E hr hlocks hT hS hw dX5_without_25
/-- matters(I)I -/
def wp_matters (post : Int32 → TS → Prop) (z0 : TS) (i1 : Int32) : Prop := ∀ z1, z1 = ux z0 2 (nI 0) → wp_isStay (fun b3 z2 => (b3 = true → wp_classFor (fun r6 z5 => ∃ I7 : Nat → TS → Int32 → Int32 → Prop, (∃ n14, I7 n14 z5 (nI 0) (nI 0)) ∧ ∀ (n8 : Nat) (z9 : TS) (x12 : Int32) (x13 : Int32), I7 n8 z9 x12 x13 → vp_in (i1) 24 ∧ ((sf z9 38 i1.toNatClampNeg) ≤ x13 → ∃ I16 : Nat → TS → Int32 → Int32 → Prop, (∃ n23, I16 n23 z9 x12 (nI 0)) ∧ ∀ (n17 : Nat) (z18 : TS) (x21 : Int32) (x22 : Int32), I16 n17 z18 x21 x22 → vp_in (i1) 24 ∧ ((sf z18 40 i1.toNatClampNeg) ≤ x22 → post x21 z18) ∧ (¬ (sf z18 40 i1.toNatClampNeg) ≤ x22 → vp_in (((nI 6) * i1) + x22) 144 ∧ wp_classWithout (fun r26 z25 => (r26 = r6 → ∃ n28, n28 < n17 ∧ I16 n28 z25 x21 (x22 + nI 1)) ∧ (¬ r26 = r6 → vp_in (i1) 24 ∧ ∀ x29, x29 = x21 ||| ((nI 1) <<< (((sf z25 38 i1.toNatClampNeg) + x22) &&& 31)) → ∃ n30, n30 < n17 ∧ I16 n30 z25 x29 (x22 + nI 1))) z18 i1 (sf z18 41 (((nI 6) * i1) + x22).toNatClampNeg))) ∧ (¬ (sf z9 38 i1.toNatClampNeg) ≤ x13 → vp_in (((nI 8) * i1) + x13) 192 ∧ wp_classWithout (fun r34 z33 => (r34 = r6 → ∃ n36, n36 < n8 ∧ I7 n36 z33 x12 (x13 + nI 1)) ∧ (¬ r34 = r6 → ∀ x37, x37 = x12 ||| ((nI 1) <<< (x13 &&& 31)) → ∃ n38, n38 < n8 ∧ I7 n38 z33 x37 (x13 + nI 1))) z9 i1 (sf z9 39 (((nI 8) * i1) + x13).toNatClampNeg))) z2 (sx z2 29) i1) ∧ (b3 = false → post ((-1)) z2)) z1 i1
theorem hd_matters : yX5_matters.cls = RX5 ∧ yX5_matters.cls ≠ "java/lang/invoke/MethodHandle" ∧ yX5_matters.cls ≠ "java/lang/invoke/VarHandle" ∧ (parseMethodDescriptor yX5_matters.desc).map (fun d => d.parameters.length) = some 1 := by decide +kernel
set_option maxHeartbeats 4000000 in
theorem met_matters (l : Launch) (G : GP) (ta : Nat → Nat) (d : Nat) {post : Int32 → TS → Prop} {z0 : TS} {i1 : Int32} (hw : wp_matters post z0 i1) : Met l yX5_matters (ws_ yX5_matters cX5_matters 5 (some .int)) (rmd (d + 406) 0 0) (tPc G ta z0 [.ref (ta 73), .int (i1)]) (tQi G ta post) 0 0 (TA ta) := by
  unfold wp_matters at hw
  refine tw_met (by decide) rfl (Nat.le_of_ble_eq_true rfl) ?_
  intro p e s m args below meth c ls E hr hlocks hK hT hS hl
  replace hl : lv_has ls 5 [(0, .ref (ta 73)), (1, .int (i1))] := hl
  refine lv_aload_n E.1 E.2.1 dX5_matters_0 rfl (lv_at hl 0 rfl) ?_
  refine lv_iconst (v := nI 0) E.1 E.2.1 dX5_matters_1 rfl ?_
  refine tw_puti E hK hT hS 2 (Nat.le_of_ble_eq_true rfl) q1812 rfl rfl rfl rfl dX5_matters_2 (fun H locs hT hS => ?_)
  obtain ⟨z1, ez1⟩ : ∃ y, y = ux z0 2 (nI 0) := ⟨_, rfl⟩
  rw [← ez1] at hT
  replace hw := hw z1 ez1
  refine lv_aload_n E.1 E.2.1 dX5_matters_5 rfl (lv_at hl 0 rfl) ?_
  refine lv_iload_n E.1 E.2.1 dX5_matters_6 rfl (lv_at hl 1 rfl) ?_
  refine tw_callVz E hK hT hS (As := [.int (i1)]) (rest := []) (met_isStay l G ta (d + 404) hw) (cwV 1 E.2.2.2.2 (lw_V q2294 q2296 qs102 q128 q2297) rfl rfl rfl hd_isStay (rm_ok (by omega) (by decide))) rfl rfl hl.1 (Nat.le_of_ble_eq_true rfl) dX5_matters_7 (fun b3 z2 H locs hw hT hS => ?_)
  refine lv_if_ne (tgt := 15) E.1 E.2.1 dX5_matters_10 (by decide) (fun c4 => ?_) (fun c4 => ?_)
  · replace hw := hw.1 (bi_n c4)
    refine lv_aload_n E.1 E.2.1 dX5_matters_15 rfl (lv_at hl 0 rfl) ?_
    refine lv_aload_n E.1 E.2.1 dX5_matters_16 rfl (lv_at hl 0 rfl) ?_
    refine tw_get E hK hT 29 (Nat.le_of_ble_eq_true rfl) q1839 rfl (v := .int (sx z2 29)) rfl dX5_matters_17 ?_
    refine lv_iload_n E.1 E.2.1 dX5_matters_20 rfl (lv_at hl 1 rfl) ?_
    refine tw_callVi E hK hT hS (As := [.int (sx z2 29), .int (i1)]) (rest := []) (met_classFor l G ta (d + 1) hw) (cwV 2 E.2.2.2.2 (lw_V q2359 q2361 qs112 q128 q2362) rfl rfl rfl hd_classFor (rm_ok (by omega) (by decide))) rfl rfl hl.1 (Nat.le_of_ble_eq_true rfl) dX5_matters_21 (fun r6 z5 H locs hw hT hS => ?_)
    refine lv_istore_n (lv' := [(2, .int (r6)), (0, .ref (ta 73)), (1, .int (i1))]) E.1 E.2.1 dX5_matters_24 rfl hl (Nat.le_of_ble_eq_true rfl) rfl (fun ls hl => ?_)
    refine lv_iconst (v := nI 0) E.1 E.2.1 dX5_matters_25 rfl ?_
    refine lv_istore_n (lv' := [(3, .int (nI 0)), (2, .int (r6)), (0, .ref (ta 73)), (1, .int (i1))]) E.1 E.2.1 dX5_matters_26 rfl hl (Nat.le_of_ble_eq_true rfl) rfl (fun ls hl => ?_)
    refine lv_iconst (v := nI 0) E.1 E.2.1 dX5_matters_27 rfl ?_
    refine lv_istore (lv' := [(4, .int (nI 0)), (3, .int (nI 0)), (2, .int (r6)), (0, .ref (ta 73)), (1, .int (i1))]) E.1 E.2.1 dX5_matters_28 hl (Nat.le_of_ble_eq_true rfl) rfl (fun ls hl => ?_)
    obtain ⟨I7, ⟨n14, hi40⟩, hb39⟩ := hw
    have L11 : ∀ (n8 : Nat) (z9 : TS) (x12 : Int32) (x13 : Int32), I7 n8 z9 x12 x13 → ∀ (H : Heap) (locs : List Loc) (ls : Array Slot), TW G ta z9 H → va_S (TA ta) s.heap H locs → lv_has ls 5 [(0, .ref (ta 73)), (1, .int (i1)), (2, .int (r6)), (3, .int (x12)), (4, .int (x13))] → W p l e (rmd (d + 406) 0 0) s m args below meth c H locs 0 0 (MQ below (tQi G ta post) args s 0 0 (TA ta)) (F0 m 30 ls []) := by
      intro n8
      induction n8 using Nat.strongRecOn with
      | _ n8 ih10 =>
        intro z9 x12 x13 hw H locs ls hT hS hl
        replace hw := hb39 n8 z9 x12 x13 hw
        refine lv_iload E.1 E.2.1 dX5_matters_30 (lv_at hl 4 rfl) ?_
        refine lv_aload_n E.1 E.2.1 dX5_matters_32 rfl (lv_at hl 0 rfl) ?_
        refine tw_get E hK hT 38 (Nat.le_of_ble_eq_true rfl) q1848 rfl (v := .ref (ta 38)) rfl dX5_matters_33 ?_
        refine lv_iload_n E.1 E.2.1 dX5_matters_36 rfl (lv_at hl 1 rfl) ?_
        obtain ⟨hin, hw⟩ := hw
        refine tw_iald E hK hT 38 rfl hin dX5_matters_37 ?_
        refine lv_icmp_ge (tgt := 75) E.1 E.2.1 dX5_matters_38 (by decide) (fun c15 => ?_) (fun c15 => ?_)
        · replace hw := hw.1 (c15)
          refine lv_iconst (v := nI 0) E.1 E.2.1 dX5_matters_75 rfl ?_
          refine lv_istore (lv' := [(4, .int (nI 0)), (0, .ref (ta 73)), (1, .int (i1)), (2, .int (r6)), (3, .int (x12))]) E.1 E.2.1 dX5_matters_76 hl (Nat.le_of_ble_eq_true rfl) rfl (fun ls hl => ?_)
          obtain ⟨I16, ⟨n23, hi32⟩, hb31⟩ := hw
          have L20 : ∀ (n17 : Nat) (z18 : TS) (x21 : Int32) (x22 : Int32), I16 n17 z18 x21 x22 → ∀ (H : Heap) (locs : List Loc) (ls : Array Slot), TW G ta z18 H → va_S (TA ta) s.heap H locs → lv_has ls 5 [(0, .ref (ta 73)), (1, .int (i1)), (2, .int (r6)), (3, .int (x21)), (4, .int (x22))] → W p l e (rmd (d + 406) 0 0) s m args below meth c H locs 0 0 (MQ below (tQi G ta post) args s 0 0 (TA ta)) (F0 m 78 ls []) := by
            intro n17
            induction n17 using Nat.strongRecOn with
            | _ n17 ih19 =>
              intro z18 x21 x22 hw H locs ls hT hS hl
              replace hw := hb31 n17 z18 x21 x22 hw
              refine lv_iload E.1 E.2.1 dX5_matters_78 (lv_at hl 4 rfl) ?_
              refine lv_aload_n E.1 E.2.1 dX5_matters_80 rfl (lv_at hl 0 rfl) ?_
              refine tw_get E hK hT 40 (Nat.le_of_ble_eq_true rfl) q1850 rfl (v := .ref (ta 40)) rfl dX5_matters_81 ?_
              refine lv_iload_n E.1 E.2.1 dX5_matters_84 rfl (lv_at hl 1 rfl) ?_
              obtain ⟨hin, hw⟩ := hw
              refine tw_iald E hK hT 40 rfl hin dX5_matters_85 ?_
              refine lv_icmp_ge (tgt := 130) E.1 E.2.1 dX5_matters_86 (by decide) (fun c24 => ?_) (fun c24 => ?_)
              · replace hw := hw.1 (c24)
                refine lv_iload_n E.1 E.2.1 dX5_matters_130 rfl (lv_at hl 3 rfl) ?_
                exact tw_ireti E hr hlocks hT hS hw dX5_matters_131
              · replace hw := hw.2 (c24)
                refine lv_aload_n E.1 E.2.1 dX5_matters_89 rfl (lv_at hl 0 rfl) ?_
                refine lv_iload_n E.1 E.2.1 dX5_matters_90 rfl (lv_at hl 1 rfl) ?_
                refine lv_aload_n E.1 E.2.1 dX5_matters_91 rfl (lv_at hl 0 rfl) ?_
                refine tw_get E hK hT 41 (Nat.le_of_ble_eq_true rfl) q1851 rfl (v := .ref (ta 41)) rfl dX5_matters_92 ?_
                refine lv_bipush (v := nI 6) E.1 E.2.1 dX5_matters_95 rfl ?_
                refine lv_iload_n E.1 E.2.1 dX5_matters_97 rfl (lv_at hl 1 rfl) ?_
                refine lv_imul E.1 E.2.1 dX5_matters_98 ?_
                refine lv_iload E.1 E.2.1 dX5_matters_99 (lv_at hl 4 rfl) ?_
                refine lv_iadd E.1 E.2.1 dX5_matters_101 ?_
                obtain ⟨hin, hw⟩ := hw
                refine tw_iald E hK hT 41 rfl hin dX5_matters_102 ?_
                refine tw_callVi E hK hT hS (As := [.int (i1), .int (sf z18 41 (((nI 6) * i1) + x22).toNatClampNeg)]) (rest := []) (met_classWithout l G ta (d) hw) (cwV 2 E.2.2.2.2 (lw_V q2399 q2401 qs117 q128 q2402) rfl rfl rfl hd_classWithout (rm_ok (by omega) (by decide))) rfl rfl hl.1 (Nat.le_of_ble_eq_true rfl) dX5_matters_103 (fun r26 z25 H locs hw hT hS => ?_)
                refine lv_iload_n E.1 E.2.1 dX5_matters_106 rfl (lv_at hl 2 rfl) ?_
                refine lv_icmp_eq (tgt := 124) E.1 E.2.1 dX5_matters_107 (by decide) (fun c27 => ?_) (fun c27 => ?_)
                · replace hw := hw.1 (c27)
                  refine lv_iinc (k := 4) (v := x22 + nI 1) (lv' := [(4, .int (x22 + nI 1)), (0, .ref (ta 73)), (1, .int (i1)), (2, .int (r6)), (3, .int (x21))]) E.1 E.2.1 dX5_matters_124 hl rfl rfl (Nat.le_of_ble_eq_true rfl) rfl (fun ls hl => ?_)
                  refine lv_goto (tgt := 78) E.1 E.2.1 dX5_matters_127 (by decide) ?_
                  obtain ⟨n28, hnn28, hin28⟩ := hw
                  exact ih19 n28 hnn28 _ _ _ hin28 _ _ _ hT hS (lv_sub hl [1, 2, 3, 4, 0] rfl)
                · replace hw := hw.2 (c27)
                  refine lv_iload_n E.1 E.2.1 dX5_matters_110 rfl (lv_at hl 3 rfl) ?_
                  refine lv_iconst (v := nI 1) E.1 E.2.1 dX5_matters_111 rfl ?_
                  refine lv_aload_n E.1 E.2.1 dX5_matters_112 rfl (lv_at hl 0 rfl) ?_
                  refine tw_get E hK hT 38 (Nat.le_of_ble_eq_true rfl) q1848 rfl (v := .ref (ta 38)) rfl dX5_matters_113 ?_
                  refine lv_iload_n E.1 E.2.1 dX5_matters_116 rfl (lv_at hl 1 rfl) ?_
                  obtain ⟨hin, hw⟩ := hw
                  refine tw_iald E hK hT 38 rfl hin dX5_matters_117 ?_
                  refine lv_iload E.1 E.2.1 dX5_matters_118 (lv_at hl 4 rfl) ?_
                  refine lv_iadd E.1 E.2.1 dX5_matters_120 ?_
                  refine lv_ishl E.1 E.2.1 dX5_matters_121 ?_
                  refine lv_ior E.1 E.2.1 dX5_matters_122 ?_
                  refine lv_topi (fun x29 ex29 => ?_)
                  replace hw := hw x29 ex29
                  refine lv_istore_n (lv' := [(3, .int (x29)), (0, .ref (ta 73)), (1, .int (i1)), (2, .int (r6)), (4, .int (x22))]) E.1 E.2.1 dX5_matters_123 rfl hl (Nat.le_of_ble_eq_true rfl) rfl (fun ls hl => ?_)
                  refine lv_iinc (k := 4) (v := x22 + nI 1) (lv' := [(4, .int (x22 + nI 1)), (3, .int (x29)), (0, .ref (ta 73)), (1, .int (i1)), (2, .int (r6))]) E.1 E.2.1 dX5_matters_124 hl rfl rfl (Nat.le_of_ble_eq_true rfl) rfl (fun ls hl => ?_)
                  refine lv_goto (tgt := 78) E.1 E.2.1 dX5_matters_127 (by decide) ?_
                  obtain ⟨n30, hnn30, hin30⟩ := hw
                  exact ih19 n30 hnn30 _ _ _ hin30 _ _ _ hT hS (lv_sub hl [2, 3, 4, 1, 0] rfl)
          exact L20 n23 _ _ _ hi32 _ _ _ hT hS (lv_sub hl [1, 2, 3, 4, 0] rfl)
        · replace hw := hw.2 (c15)
          refine lv_aload_n E.1 E.2.1 dX5_matters_41 rfl (lv_at hl 0 rfl) ?_
          refine lv_iload_n E.1 E.2.1 dX5_matters_42 rfl (lv_at hl 1 rfl) ?_
          refine lv_aload_n E.1 E.2.1 dX5_matters_43 rfl (lv_at hl 0 rfl) ?_
          refine tw_get E hK hT 39 (Nat.le_of_ble_eq_true rfl) q1849 rfl (v := .ref (ta 39)) rfl dX5_matters_44 ?_
          refine lv_bipush (v := nI 8) E.1 E.2.1 dX5_matters_47 rfl ?_
          refine lv_iload_n E.1 E.2.1 dX5_matters_49 rfl (lv_at hl 1 rfl) ?_
          refine lv_imul E.1 E.2.1 dX5_matters_50 ?_
          refine lv_iload E.1 E.2.1 dX5_matters_51 (lv_at hl 4 rfl) ?_
          refine lv_iadd E.1 E.2.1 dX5_matters_53 ?_
          obtain ⟨hin, hw⟩ := hw
          refine tw_iald E hK hT 39 rfl hin dX5_matters_54 ?_
          refine tw_callVi E hK hT hS (As := [.int (i1), .int (sf z9 39 (((nI 8) * i1) + x13).toNatClampNeg)]) (rest := []) (met_classWithout l G ta (d) hw) (cwV 2 E.2.2.2.2 (lw_V q2399 q2401 qs117 q128 q2402) rfl rfl rfl hd_classWithout (rm_ok (by omega) (by decide))) rfl rfl hl.1 (Nat.le_of_ble_eq_true rfl) dX5_matters_55 (fun r34 z33 H locs hw hT hS => ?_)
          refine lv_iload_n E.1 E.2.1 dX5_matters_58 rfl (lv_at hl 2 rfl) ?_
          refine lv_icmp_eq (tgt := 69) E.1 E.2.1 dX5_matters_59 (by decide) (fun c35 => ?_) (fun c35 => ?_)
          · replace hw := hw.1 (c35)
            refine lv_iinc (k := 4) (v := x13 + nI 1) (lv' := [(4, .int (x13 + nI 1)), (0, .ref (ta 73)), (1, .int (i1)), (2, .int (r6)), (3, .int (x12))]) E.1 E.2.1 dX5_matters_69 hl rfl rfl (Nat.le_of_ble_eq_true rfl) rfl (fun ls hl => ?_)
            refine lv_goto (tgt := 30) E.1 E.2.1 dX5_matters_72 (by decide) ?_
            obtain ⟨n36, hnn36, hin36⟩ := hw
            exact ih10 n36 hnn36 _ _ _ hin36 _ _ _ hT hS (lv_sub hl [1, 2, 3, 4, 0] rfl)
          · replace hw := hw.2 (c35)
            refine lv_iload_n E.1 E.2.1 dX5_matters_62 rfl (lv_at hl 3 rfl) ?_
            refine lv_iconst (v := nI 1) E.1 E.2.1 dX5_matters_63 rfl ?_
            refine lv_iload E.1 E.2.1 dX5_matters_64 (lv_at hl 4 rfl) ?_
            refine lv_ishl E.1 E.2.1 dX5_matters_66 ?_
            refine lv_ior E.1 E.2.1 dX5_matters_67 ?_
            refine lv_topi (fun x37 ex37 => ?_)
            replace hw := hw x37 ex37
            refine lv_istore_n (lv' := [(3, .int (x37)), (0, .ref (ta 73)), (1, .int (i1)), (2, .int (r6)), (4, .int (x13))]) E.1 E.2.1 dX5_matters_68 rfl hl (Nat.le_of_ble_eq_true rfl) rfl (fun ls hl => ?_)
            refine lv_iinc (k := 4) (v := x13 + nI 1) (lv' := [(4, .int (x13 + nI 1)), (3, .int (x37)), (0, .ref (ta 73)), (1, .int (i1)), (2, .int (r6))]) E.1 E.2.1 dX5_matters_69 hl rfl rfl (Nat.le_of_ble_eq_true rfl) rfl (fun ls hl => ?_)
            refine lv_goto (tgt := 30) E.1 E.2.1 dX5_matters_72 (by decide) ?_
            obtain ⟨n38, hnn38, hin38⟩ := hw
            exact ih10 n38 hnn38 _ _ _ hin38 _ _ _ hT hS (lv_sub hl [2, 3, 4, 1, 0] rfl)
    exact L11 n14 _ _ _ hi40 _ _ _ hT hS (lv_sub hl [3, 4, 2, 1, 0] rfl)
  · replace hw := hw.2 (bi_z c4)
    refine lv_iconst (v := (-1)) E.1 E.2.1 dX5_matters_13 rfl ?_
    exact tw_ireti E hr hlocks hT hS hw dX5_matters_14
/-- raises(I)I -/
def wp_raises (post : Int32 → TS → Prop) (z0 : TS) (i1 : Int32) : Prop := ∀ z1, z1 = ux z0 2 (nI 0) → wp_isStay (fun b3 z2 => (b3 = true → wp_weightFor (fun r6 z5 => ∃ I7 : Nat → TS → Int32 → Prop, (∃ n13, I7 n13 z5 (nI 0)) ∧ ∀ (n8 : Nat) (z9 : TS) (x12 : Int32), I7 n8 z9 x12 → ((nI 1500) ≤ x12 → post ((-1)) z9) ∧ (¬ (nI 1500) ≤ x12 → wp_canCome (fun b16 z15 => (b16 = true → wp_adds (fun z18 => wp_weightFor (fun r20 z19 => wp_takes (fun z21 => (r20 ≤ r6 → ∃ n23, n23 < n8 ∧ I7 n23 z21 (x12 + nI 1)) ∧ (¬ r20 ≤ r6 → post x12 z21)) z19 i1 x12) z18 (sx z18 29) i1) z15 i1 x12) ∧ (b16 = false → ∃ n24, n24 < n8 ∧ I7 n24 z15 (x12 + nI 1))) z9 i1 x12)) z2 (sx z2 29) i1) ∧ (b3 = false → post ((-1)) z2)) z1 i1
theorem hd_raises : yX5_raises.cls = RX5 ∧ yX5_raises.cls ≠ "java/lang/invoke/MethodHandle" ∧ yX5_raises.cls ≠ "java/lang/invoke/VarHandle" ∧ (parseMethodDescriptor yX5_raises.desc).map (fun d => d.parameters.length) = some 1 := by decide +kernel
set_option maxHeartbeats 4000000 in
theorem met_raises (l : Launch) (G : GP) (ta : Nat → Nat) (d : Nat) {post : Int32 → TS → Prop} {z0 : TS} {i1 : Int32} (hw : wp_raises post z0 i1) : Met l yX5_raises (ws_ yX5_raises cX5_raises 5 (some .int)) (rmd (d + 406) 0 0) (tPc G ta z0 [.ref (ta 73), .int (i1)]) (tQi G ta post) 0 0 (TA ta) := by
  unfold wp_raises at hw
  refine tw_met (by decide) rfl (Nat.le_of_ble_eq_true rfl) ?_
  intro p e s m args below meth c ls E hr hlocks hK hT hS hl
  replace hl : lv_has ls 5 [(0, .ref (ta 73)), (1, .int (i1))] := hl
  refine lv_aload_n E.1 E.2.1 dX5_raises_0 rfl (lv_at hl 0 rfl) ?_
  refine lv_iconst (v := nI 0) E.1 E.2.1 dX5_raises_1 rfl ?_
  refine tw_puti E hK hT hS 2 (Nat.le_of_ble_eq_true rfl) q1812 rfl rfl rfl rfl dX5_raises_2 (fun H locs hT hS => ?_)
  obtain ⟨z1, ez1⟩ : ∃ y, y = ux z0 2 (nI 0) := ⟨_, rfl⟩
  rw [← ez1] at hT
  replace hw := hw z1 ez1
  refine lv_aload_n E.1 E.2.1 dX5_raises_5 rfl (lv_at hl 0 rfl) ?_
  refine lv_iload_n E.1 E.2.1 dX5_raises_6 rfl (lv_at hl 1 rfl) ?_
  refine tw_callVz E hK hT hS (As := [.int (i1)]) (rest := []) (met_isStay l G ta (d + 404) hw) (cwV 1 E.2.2.2.2 (lw_V q2294 q2296 qs102 q128 q2297) rfl rfl rfl hd_isStay (rm_ok (by omega) (by decide))) rfl rfl hl.1 (Nat.le_of_ble_eq_true rfl) dX5_raises_7 (fun b3 z2 H locs hw hT hS => ?_)
  refine lv_if_ne (tgt := 15) E.1 E.2.1 dX5_raises_10 (by decide) (fun c4 => ?_) (fun c4 => ?_)
  · replace hw := hw.1 (bi_n c4)
    refine lv_aload_n E.1 E.2.1 dX5_raises_15 rfl (lv_at hl 0 rfl) ?_
    refine lv_aload_n E.1 E.2.1 dX5_raises_16 rfl (lv_at hl 0 rfl) ?_
    refine tw_get E hK hT 29 (Nat.le_of_ble_eq_true rfl) q1839 rfl (v := .int (sx z2 29)) rfl dX5_raises_17 ?_
    refine lv_iload_n E.1 E.2.1 dX5_raises_20 rfl (lv_at hl 1 rfl) ?_
    refine tw_callVi E hK hT hS (As := [.int (sx z2 29), .int (i1)]) (rest := []) (met_weightFor l G ta (d) hw) (cwV 2 E.2.2.2.2 (lw_V q2371 q2373 qs115 q128 q2374) rfl rfl rfl hd_weightFor (rm_ok (by omega) (by decide))) rfl rfl hl.1 (Nat.le_of_ble_eq_true rfl) dX5_raises_21 (fun r6 z5 H locs hw hT hS => ?_)
    refine lv_istore_n (lv' := [(2, .int (r6)), (0, .ref (ta 73)), (1, .int (i1))]) E.1 E.2.1 dX5_raises_24 rfl hl (Nat.le_of_ble_eq_true rfl) rfl (fun ls hl => ?_)
    refine lv_iconst (v := nI 0) E.1 E.2.1 dX5_raises_25 rfl ?_
    refine lv_istore_n (lv' := [(3, .int (nI 0)), (2, .int (r6)), (0, .ref (ta 73)), (1, .int (i1))]) E.1 E.2.1 dX5_raises_26 rfl hl (Nat.le_of_ble_eq_true rfl) rfl (fun ls hl => ?_)
    obtain ⟨I7, ⟨n13, hi26⟩, hb25⟩ := hw
    have L11 : ∀ (n8 : Nat) (z9 : TS) (x12 : Int32), I7 n8 z9 x12 → ∀ (H : Heap) (locs : List Loc) (ls : Array Slot), TW G ta z9 H → va_S (TA ta) s.heap H locs → lv_has ls 5 [(0, .ref (ta 73)), (1, .int (i1)), (2, .int (r6)), (3, .int (x12))] → W p l e (rmd (d + 406) 0 0) s m args below meth c H locs 0 0 (MQ below (tQi G ta post) args s 0 0 (TA ta)) (F0 m 27 ls []) := by
      intro n8
      induction n8 using Nat.strongRecOn with
      | _ n8 ih10 =>
        intro z9 x12 hw H locs ls hT hS hl
        replace hw := hb25 n8 z9 x12 hw
        refine lv_iload_n E.1 E.2.1 dX5_raises_27 rfl (lv_at hl 3 rfl) ?_
        refine lv_sipush (v := nI 1500) E.1 E.2.1 dX5_raises_28 rfl ?_
        refine lv_icmp_ge (tgt := 83) E.1 E.2.1 dX5_raises_31 (by decide) (fun c14 => ?_) (fun c14 => ?_)
        · replace hw := hw.1 (c14)
          refine lv_iconst (v := (-1)) E.1 E.2.1 dX5_raises_83 rfl ?_
          exact tw_ireti E hr hlocks hT hS hw dX5_raises_84
        · replace hw := hw.2 (c14)
          refine lv_aload_n E.1 E.2.1 dX5_raises_34 rfl (lv_at hl 0 rfl) ?_
          refine lv_iload_n E.1 E.2.1 dX5_raises_35 rfl (lv_at hl 1 rfl) ?_
          refine lv_iload_n E.1 E.2.1 dX5_raises_36 rfl (lv_at hl 3 rfl) ?_
          refine tw_callVz E hK hT hS (As := [.int (i1), .int (x12)]) (rest := []) (met_canCome l G ta (d + 403) hw) (cwV 2 E.2.2.2.2 (lw_V q2290 q2292 qs101 q128 q2293) rfl rfl rfl hd_canCome (rm_ok (by omega) (by decide))) rfl rfl hl.1 (Nat.le_of_ble_eq_true rfl) dX5_raises_37 (fun b16 z15 H locs hw hT hS => ?_)
          refine lv_if_ne (tgt := 46) E.1 E.2.1 dX5_raises_40 (by decide) (fun c17 => ?_) (fun c17 => ?_)
          · replace hw := hw.1 (bi_n c17)
            refine lv_aload_n E.1 E.2.1 dX5_raises_46 rfl (lv_at hl 0 rfl) ?_
            refine lv_iload_n E.1 E.2.1 dX5_raises_47 rfl (lv_at hl 1 rfl) ?_
            refine lv_iload_n E.1 E.2.1 dX5_raises_48 rfl (lv_at hl 3 rfl) ?_
            refine tw_callVv E hK hT hS (As := [.int (i1), .int (x12)]) (rest := []) (met_adds l G ta (d + 404) hw) (cwV 2 E.2.2.2.2 (lw_V q2301 q2303 qs103 q128 q2304) rfl rfl rfl hd_adds (rm_ok (by omega) (by decide))) rfl rfl hl.1 (Nat.le_of_ble_eq_true rfl) dX5_raises_49 (fun z18 H locs hw hT hS => ?_)
            refine lv_aload_n E.1 E.2.1 dX5_raises_52 rfl (lv_at hl 0 rfl) ?_
            refine lv_aload_n E.1 E.2.1 dX5_raises_53 rfl (lv_at hl 0 rfl) ?_
            refine tw_get E hK hT 29 (Nat.le_of_ble_eq_true rfl) q1839 rfl (v := .int (sx z18 29)) rfl dX5_raises_54 ?_
            refine lv_iload_n E.1 E.2.1 dX5_raises_57 rfl (lv_at hl 1 rfl) ?_
            refine tw_callVi E hK hT hS (As := [.int (sx z18 29), .int (i1)]) (rest := []) (met_weightFor l G ta (d) hw) (cwV 2 E.2.2.2.2 (lw_V q2371 q2373 qs115 q128 q2374) rfl rfl rfl hd_weightFor (rm_ok (by omega) (by decide))) rfl rfl hl.1 (Nat.le_of_ble_eq_true rfl) dX5_raises_58 (fun r20 z19 H locs hw hT hS => ?_)
            refine lv_istore (lv' := [(4, .int (r20)), (0, .ref (ta 73)), (1, .int (i1)), (2, .int (r6)), (3, .int (x12))]) E.1 E.2.1 dX5_raises_61 hl (Nat.le_of_ble_eq_true rfl) rfl (fun ls hl => ?_)
            refine lv_aload_n E.1 E.2.1 dX5_raises_63 rfl (lv_at hl 1 rfl) ?_
            refine lv_iload_n E.1 E.2.1 dX5_raises_64 rfl (lv_at hl 2 rfl) ?_
            refine lv_iload_n E.1 E.2.1 dX5_raises_65 rfl (lv_at hl 4 rfl) ?_
            refine tw_callVv E hK hT hS (As := [.int (i1), .int (x12)]) (rest := []) (met_takes l G ta (d + 403) hw) (cwV 2 E.2.2.2.2 (lw_V q2316 q2318 qs105 q128 q2319) rfl rfl rfl hd_takes (rm_ok (by omega) (by decide))) rfl rfl hl.1 (Nat.le_of_ble_eq_true rfl) dX5_raises_66 (fun z21 H locs hw hT hS => ?_)
            refine lv_iload E.1 E.2.1 dX5_raises_69 (lv_at hl 0 rfl) ?_
            refine lv_iload_n E.1 E.2.1 dX5_raises_71 rfl (lv_at hl 3 rfl) ?_
            refine lv_icmp_le (tgt := 77) E.1 E.2.1 dX5_raises_72 (by decide) (fun c22 => ?_) (fun c22 => ?_)
            · replace hw := hw.1 (c22)
              refine lv_iinc (k := 4) (v := x12 + nI 1) (lv' := [(3, .int (x12 + nI 1)), (4, .int (r20)), (0, .ref (ta 73)), (1, .int (i1)), (2, .int (r6))]) E.1 E.2.1 dX5_raises_77 hl rfl rfl (Nat.le_of_ble_eq_true rfl) rfl (fun ls hl => ?_)
              refine lv_goto (tgt := 27) E.1 E.2.1 dX5_raises_80 (by decide) ?_
              obtain ⟨n23, hnn23, hin23⟩ := hw
              exact ih10 n23 hnn23 _ _ hin23 _ _ _ hT hS (lv_sub hl [2, 3, 4, 0] rfl)
            · replace hw := hw.2 (c22)
              refine lv_iload_n E.1 E.2.1 dX5_raises_75 rfl (lv_at hl 4 rfl) ?_
              exact tw_ireti E hr hlocks hT hS hw dX5_raises_76
          · replace hw := hw.2 (bi_z c17)
            refine lv_goto (tgt := 77) E.1 E.2.1 dX5_raises_43 (by decide) ?_
            refine lv_iinc (k := 3) (v := x12 + nI 1) (lv' := [(3, .int (x12 + nI 1)), (0, .ref (ta 73)), (1, .int (i1)), (2, .int (r6))]) E.1 E.2.1 dX5_raises_77 hl rfl rfl (Nat.le_of_ble_eq_true rfl) rfl (fun ls hl => ?_)
            refine lv_goto (tgt := 27) E.1 E.2.1 dX5_raises_80 (by decide) ?_
            obtain ⟨n24, hnn24, hin24⟩ := hw
            exact ih10 n24 hnn24 _ _ hin24 _ _ _ hT hS (lv_sub hl [1, 2, 3, 0] rfl)
    exact L11 n13 _ _ hi26 _ _ _ hT hS (lv_sub hl [2, 3, 1, 0] rfl)
  · replace hw := hw.2 (bi_z c4)
    refine lv_iconst (v := (-1)) E.1 E.2.1 dX5_raises_13 rfl ?_
    exact tw_ireti E hr hlocks hT hS hw dX5_raises_14
/-- ofClass(II)I -/
def wp_ofClass (post : Int32 → TS → Prop) (z0 : TS) (i1 : Int32) (i2 : Int32) : Prop := ∀ z1, z1 = ux z0 2 (nI 0) → wp_classes (fun r3 z2 => wp_within (fun b5 z4 => (b5 = false → post ((-1)) z4) ∧ (b5 = true → wp_within (fun b8 z7 => (b8 = true → (¬ i2 = 0 → ∃ J11 : TS → Int32 → Prop, (∀ (z13 : TS) (x14 : Int32), J11 z13 x14 → (¬ i2 = (nI 2) → post x14 z13) ∧ (i2 = (nI 2) → ∃ I16 : Nat → TS → Int32 → Int32 → Prop, (∃ n23, I16 n23 z13 x14 (nI 0)) ∧ ∀ (n17 : Nat) (z18 : TS) (x21 : Int32) (x22 : Int32), I16 n17 z18 x21 x22 → ((sx z18 34) ≤ x22 → post x21 z18) ∧ (¬ (sx z18 34) ≤ x22 → wp_classFor (fun r26 z25 => (¬ r26 = i1 → ∃ n28, n28 < n17 ∧ I16 n28 z25 x21 (x22 + nI 1)) ∧ (r26 = i1 → ∃ n29, n29 < n17 ∧ I16 n29 z25 (x21 + nI 1) (x22 + nI 1))) z18 (sx z18 29) x22))) ∧ ((¬ i2 = (nI 1) → J11 z7 (nI 0)) ∧ (i2 = (nI 1) → ∃ I33 : Nat → TS → Int32 → Int32 → Prop, (∃ n40, I33 n40 z7 (nI 0) (nI 0)) ∧ ∀ (n34 : Nat) (z35 : TS) (x38 : Int32) (x39 : Int32), I33 n34 z35 x38 x39 → ((sx z35 66) ≤ x39 → J11 z35 x38) ∧ (¬ (sx z35 66) ≤ x39 → vp_in (x39) 40 ∧ vp_in (((nI 40) * (sx z35 29)) + (sf z35 67 x39.toNatClampNeg)) 120 ∧ (¬ (sf z35 20 (((nI 40) * (sx z35 29)) + (sf z35 67 x39.toNatClampNeg)).toNatClampNeg) = i1 → ∃ n43, n43 < n34 ∧ I33 n43 z35 x38 (x39 + nI 1)) ∧ ((sf z35 20 (((nI 40) * (sx z35 29)) + (sf z35 67 x39.toNatClampNeg)).toNatClampNeg) = i1 → ∃ n44, n44 < n34 ∧ I33 n44 z35 (x38 + nI 1) (x39 + nI 1)))))) ∧ (i2 = 0 → vp_in (((nI 16) * (sx z7 29)) + i1) 48 ∧ post (sf z7 19 (((nI 16) * (sx z7 29)) + i1).toNatClampNeg) z7)) ∧ (b8 = false → post ((-1)) z7)) z4 i2 (nI 0) (nI 2))) z2 i1 (nI 0) (r3 - (nI 1))) z1 (sx z1 29)
theorem hd_ofClass : yX5_ofClass.cls = RX5 ∧ yX5_ofClass.cls ≠ "java/lang/invoke/MethodHandle" ∧ yX5_ofClass.cls ≠ "java/lang/invoke/VarHandle" ∧ (parseMethodDescriptor yX5_ofClass.desc).map (fun d => d.parameters.length) = some 2 := by decide +kernel
set_option maxHeartbeats 4000000 in
theorem met_ofClass (l : Launch) (G : GP) (ta : Nat → Nat) (d : Nat) {post : Int32 → TS → Prop} {z0 : TS} {i1 : Int32} {i2 : Int32} (hw : wp_ofClass post z0 i1 i2) : Met l yX5_ofClass (ws_ yX5_ofClass cX5_ofClass 5 (some .int)) (rmd (d + 405) 0 0) (tPc G ta z0 [.ref (ta 73), .int (i1), .int (i2)]) (tQi G ta post) 0 0 (TA ta) := by
  unfold wp_ofClass at hw
  refine tw_met (by decide) rfl (Nat.le_of_ble_eq_true rfl) ?_
  intro p e s m args below meth c ls E hr hlocks hK hT hS hl
  replace hl : lv_has ls 5 [(0, .ref (ta 73)), (1, .int (i1)), (2, .int (i2))] := hl
  refine lv_aload_n E.1 E.2.1 dX5_ofClass_0 rfl (lv_at hl 0 rfl) ?_
  refine lv_iconst (v := nI 0) E.1 E.2.1 dX5_ofClass_1 rfl ?_
  refine tw_puti E hK hT hS 2 (Nat.le_of_ble_eq_true rfl) q1812 rfl rfl rfl rfl dX5_ofClass_2 (fun H locs hT hS => ?_)
  obtain ⟨z1, ez1⟩ : ∃ y, y = ux z0 2 (nI 0) := ⟨_, rfl⟩
  rw [← ez1] at hT
  replace hw := hw z1 ez1
  refine lv_iload_n E.1 E.2.1 dX5_ofClass_5 rfl (lv_at hl 1 rfl) ?_
  refine lv_iconst (v := nI 0) E.1 E.2.1 dX5_ofClass_6 rfl ?_
  refine lv_aload_n E.1 E.2.1 dX5_ofClass_7 rfl (lv_at hl 0 rfl) ?_
  refine lv_aload_n E.1 E.2.1 dX5_ofClass_8 rfl (lv_at hl 0 rfl) ?_
  refine tw_get E hK hT 29 (Nat.le_of_ble_eq_true rfl) q1839 rfl (v := .int (sx z1 29)) rfl dX5_ofClass_9 ?_
  refine tw_callVi E hK hT hS (As := [.int (sx z1 29)]) (rest := [.int (nI 0), .int (i1)]) (met_classes l G ta (d + 404) hw) (cwV 1 E.2.2.2.2 (lw_V q2219 q2221 qs87 q128 q2222) rfl rfl rfl hd_classes (rm_ok (by omega) (by decide))) rfl rfl hl.1 (Nat.le_of_ble_eq_true rfl) dX5_ofClass_12 (fun r3 z2 H locs hw hT hS => ?_)
  refine lv_iconst (v := nI 1) E.1 E.2.1 dX5_ofClass_15 rfl ?_
  refine lv_isub E.1 E.2.1 dX5_ofClass_16 ?_
  refine tw_callSz E hK hT hS (As := [.int (i1), .int (nI 0), .int (r3 - (nI 1))]) (rest := []) (met_within l G ta (d + 404) hw) (va_cwS 3 E.2.2.2.2 (lw_S q2048 q2049 q128 q2050) rfl rfl rfl hs_within (rm_ok (by omega) (by decide))) rfl rfl hl.1 (Nat.le_of_ble_eq_true rfl) dX5_ofClass_17 (fun b5 z4 H locs hw hT hS => ?_)
  refine lv_if_eq (tgt := 32) E.1 E.2.1 dX5_ofClass_20 (by decide) (fun c6 => ?_) (fun c6 => ?_)
  · replace hw := hw.1 (bi_z c6)
    refine lv_iconst (v := (-1)) E.1 E.2.1 dX5_ofClass_32 rfl ?_
    exact tw_ireti E hr hlocks hT hS hw dX5_ofClass_33
  · replace hw := hw.2 (bi_n c6)
    refine lv_iload_n E.1 E.2.1 dX5_ofClass_23 rfl (lv_at hl 2 rfl) ?_
    refine lv_iconst (v := nI 0) E.1 E.2.1 dX5_ofClass_24 rfl ?_
    refine lv_iconst (v := nI 2) E.1 E.2.1 dX5_ofClass_25 rfl ?_
    refine tw_callSz E hK hT hS (As := [.int (i2), .int (nI 0), .int (nI 2)]) (rest := []) (met_within l G ta (d + 404) hw) (va_cwS 3 E.2.2.2.2 (lw_S q2048 q2049 q128 q2050) rfl rfl rfl hs_within (rm_ok (by omega) (by decide))) rfl rfl hl.1 (Nat.le_of_ble_eq_true rfl) dX5_ofClass_26 (fun b8 z7 H locs hw hT hS => ?_)
    refine lv_if_ne (tgt := 34) E.1 E.2.1 dX5_ofClass_29 (by decide) (fun c9 => ?_) (fun c9 => ?_)
    · replace hw := hw.1 (bi_n c9)
      refine lv_iload_n E.1 E.2.1 dX5_ofClass_34 rfl (lv_at hl 2 rfl) ?_
      refine lv_if_ne (tgt := 53) E.1 E.2.1 dX5_ofClass_35 (by decide) (fun c10 => ?_) (fun c10 => ?_)
      · replace hw := hw.1 (c10)
        obtain ⟨J11, hj47, hw⟩ := hw
        have jh12 : ∀ (z13 : TS) (x14 : Int32), J11 z13 x14 → ∀ (H : Heap) (locs : List Loc) (ls : Array Slot), TW G ta z13 H → va_S (TA ta) s.heap H locs → lv_has ls 5 [(0, .ref (ta 73)), (1, .int (i1)), (2, .int (i2)), (3, .int (x14))] → W p l e (rmd (d + 405) 0 0) s m args below meth c H locs 0 0 (MQ below (tQi G ta post) args s 0 0 (TA ta)) (F0 m 105 ls []) := by
          intro z13 x14 hw H locs ls hT hS hl
          replace hw := hj47 z13 x14 hw
          refine lv_iload_n E.1 E.2.1 dX5_ofClass_105 rfl (lv_at hl 2 rfl) ?_
          refine lv_iconst (v := nI 2) E.1 E.2.1 dX5_ofClass_106 rfl ?_
          refine lv_icmp_ne (tgt := 145) E.1 E.2.1 dX5_ofClass_107 (by decide) (fun c15 => ?_) (fun c15 => ?_)
          · replace hw := hw.1 (c15)
            refine lv_iload_n E.1 E.2.1 dX5_ofClass_145 rfl (lv_at hl 3 rfl) ?_
            exact tw_ireti E hr hlocks hT hS hw dX5_ofClass_146
          · replace hw := hw.2 (c15)
            refine lv_iconst (v := nI 0) E.1 E.2.1 dX5_ofClass_110 rfl ?_
            refine lv_istore (lv' := [(4, .int (nI 0)), (0, .ref (ta 73)), (1, .int (i1)), (2, .int (i2)), (3, .int (x14))]) E.1 E.2.1 dX5_ofClass_111 hl (Nat.le_of_ble_eq_true rfl) rfl (fun ls hl => ?_)
            obtain ⟨I16, ⟨n23, hi31⟩, hb30⟩ := hw
            have L20 : ∀ (n17 : Nat) (z18 : TS) (x21 : Int32) (x22 : Int32), I16 n17 z18 x21 x22 → ∀ (H : Heap) (locs : List Loc) (ls : Array Slot), TW G ta z18 H → va_S (TA ta) s.heap H locs → lv_has ls 5 [(0, .ref (ta 73)), (1, .int (i1)), (3, .int (x21)), (4, .int (x22))] → W p l e (rmd (d + 405) 0 0) s m args below meth c H locs 0 0 (MQ below (tQi G ta post) args s 0 0 (TA ta)) (F0 m 113 ls []) := by
              intro n17
              induction n17 using Nat.strongRecOn with
              | _ n17 ih19 =>
                intro z18 x21 x22 hw H locs ls hT hS hl
                replace hw := hb30 n17 z18 x21 x22 hw
                refine lv_iload E.1 E.2.1 dX5_ofClass_113 (lv_at hl 3 rfl) ?_
                refine lv_aload_n E.1 E.2.1 dX5_ofClass_115 rfl (lv_at hl 0 rfl) ?_
                refine tw_get E hK hT 34 (Nat.le_of_ble_eq_true rfl) q1844 rfl (v := .int (sx z18 34)) rfl dX5_ofClass_116 ?_
                refine lv_icmp_ge (tgt := 145) E.1 E.2.1 dX5_ofClass_119 (by decide) (fun c24 => ?_) (fun c24 => ?_)
                · replace hw := hw.1 (c24)
                  refine lv_iload_n E.1 E.2.1 dX5_ofClass_145 rfl (lv_at hl 2 rfl) ?_
                  exact tw_ireti E hr hlocks hT hS hw dX5_ofClass_146
                · replace hw := hw.2 (c24)
                  refine lv_aload_n E.1 E.2.1 dX5_ofClass_122 rfl (lv_at hl 0 rfl) ?_
                  refine lv_aload_n E.1 E.2.1 dX5_ofClass_123 rfl (lv_at hl 0 rfl) ?_
                  refine tw_get E hK hT 29 (Nat.le_of_ble_eq_true rfl) q1839 rfl (v := .int (sx z18 29)) rfl dX5_ofClass_124 ?_
                  refine lv_iload E.1 E.2.1 dX5_ofClass_127 (lv_at hl 3 rfl) ?_
                  refine tw_callVi E hK hT hS (As := [.int (sx z18 29), .int (x22)]) (rest := []) (met_classFor l G ta (d) hw) (cwV 2 E.2.2.2.2 (lw_V q2359 q2361 qs112 q128 q2362) rfl rfl rfl hd_classFor (rm_ok (by omega) (by decide))) rfl rfl hl.1 (Nat.le_of_ble_eq_true rfl) dX5_ofClass_129 (fun r26 z25 H locs hw hT hS => ?_)
                  refine lv_iload_n E.1 E.2.1 dX5_ofClass_132 rfl (lv_at hl 1 rfl) ?_
                  refine lv_icmp_ne (tgt := 139) E.1 E.2.1 dX5_ofClass_133 (by decide) (fun c27 => ?_) (fun c27 => ?_)
                  · replace hw := hw.1 (c27)
                    refine lv_iinc (k := 3) (v := x22 + nI 1) (lv' := [(4, .int (x22 + nI 1)), (0, .ref (ta 73)), (1, .int (i1)), (3, .int (x21))]) E.1 E.2.1 dX5_ofClass_139 hl rfl rfl (Nat.le_of_ble_eq_true rfl) rfl (fun ls hl => ?_)
                    refine lv_goto (tgt := 113) E.1 E.2.1 dX5_ofClass_142 (by decide) ?_
                    obtain ⟨n28, hnn28, hin28⟩ := hw
                    exact ih19 n28 hnn28 _ _ _ hin28 _ _ _ hT hS (lv_sub hl [1, 2, 3, 0] rfl)
                  · replace hw := hw.2 (c27)
                    refine lv_iinc (k := 2) (v := x21 + nI 1) (lv' := [(3, .int (x21 + nI 1)), (0, .ref (ta 73)), (1, .int (i1)), (4, .int (x22))]) E.1 E.2.1 dX5_ofClass_136 hl rfl rfl (Nat.le_of_ble_eq_true rfl) rfl (fun ls hl => ?_)
                    refine lv_iinc (k := 3) (v := x22 + nI 1) (lv' := [(4, .int (x22 + nI 1)), (3, .int (x21 + nI 1)), (0, .ref (ta 73)), (1, .int (i1))]) E.1 E.2.1 dX5_ofClass_139 hl rfl rfl (Nat.le_of_ble_eq_true rfl) rfl (fun ls hl => ?_)
                    refine lv_goto (tgt := 113) E.1 E.2.1 dX5_ofClass_142 (by decide) ?_
                    obtain ⟨n29, hnn29, hin29⟩ := hw
                    exact ih19 n29 hnn29 _ _ _ hin29 _ _ _ hT hS (lv_sub hl [2, 3, 1, 0] rfl)
            exact L20 n23 _ _ _ hi31 _ _ _ hT hS (lv_sub hl [1, 2, 4, 0] rfl)
        refine lv_iconst (v := nI 0) E.1 E.2.1 dX5_ofClass_53 rfl ?_
        refine lv_istore_n (lv' := [(3, .int (nI 0)), (0, .ref (ta 73)), (1, .int (i1)), (2, .int (i2))]) E.1 E.2.1 dX5_ofClass_54 rfl hl (Nat.le_of_ble_eq_true rfl) rfl (fun ls hl => ?_)
        refine lv_iload_n E.1 E.2.1 dX5_ofClass_55 rfl (lv_at hl 3 rfl) ?_
        refine lv_iconst (v := nI 1) E.1 E.2.1 dX5_ofClass_56 rfl ?_
        refine lv_icmp_ne (tgt := 105) E.1 E.2.1 dX5_ofClass_57 (by decide) (fun c32 => ?_) (fun c32 => ?_)
        · replace hw := hw.1 (c32)
          exact jh12 _ _ hw _ _ _ hT hS (lv_sub hl [1, 2, 3, 0] rfl)
        · replace hw := hw.2 (c32)
          refine lv_iconst (v := nI 0) E.1 E.2.1 dX5_ofClass_60 rfl ?_
          refine lv_istore (lv' := [(4, .int (nI 0)), (3, .int (nI 0)), (0, .ref (ta 73)), (1, .int (i1)), (2, .int (i2))]) E.1 E.2.1 dX5_ofClass_61 hl (Nat.le_of_ble_eq_true rfl) rfl (fun ls hl => ?_)
          obtain ⟨I33, ⟨n40, hi46⟩, hb45⟩ := hw
          have L37 : ∀ (n34 : Nat) (z35 : TS) (x38 : Int32) (x39 : Int32), I33 n34 z35 x38 x39 → ∀ (H : Heap) (locs : List Loc) (ls : Array Slot), TW G ta z35 H → va_S (TA ta) s.heap H locs → lv_has ls 5 [(0, .ref (ta 73)), (1, .int (i1)), (2, .int (i2)), (3, .int (x38)), (4, .int (x39))] → W p l e (rmd (d + 405) 0 0) s m args below meth c H locs 0 0 (MQ below (tQi G ta post) args s 0 0 (TA ta)) (F0 m 63 ls []) := by
            intro n34
            induction n34 using Nat.strongRecOn with
            | _ n34 ih36 =>
              intro z35 x38 x39 hw H locs ls hT hS hl
              replace hw := hb45 n34 z35 x38 x39 hw
              refine lv_iload E.1 E.2.1 dX5_ofClass_63 (lv_at hl 4 rfl) ?_
              refine lv_aload_n E.1 E.2.1 dX5_ofClass_65 rfl (lv_at hl 0 rfl) ?_
              refine tw_get E hK hT 66 (Nat.le_of_ble_eq_true rfl) q1876 rfl (v := .int (sx z35 66)) rfl dX5_ofClass_66 ?_
              refine lv_icmp_ge (tgt := 105) E.1 E.2.1 dX5_ofClass_69 (by decide) (fun c41 => ?_) (fun c41 => ?_)
              · replace hw := hw.1 (c41)
                exact jh12 _ _ hw _ _ _ hT hS (lv_sub hl [0, 1, 2, 3] rfl)
              · replace hw := hw.2 (c41)
                refine lv_aload_n E.1 E.2.1 dX5_ofClass_72 rfl (lv_at hl 0 rfl) ?_
                refine tw_get E hK hT 20 (Nat.le_of_ble_eq_true rfl) q1830 rfl (v := .ref (ta 20)) rfl dX5_ofClass_73 ?_
                refine lv_bipush (v := nI 40) E.1 E.2.1 dX5_ofClass_76 rfl ?_
                refine lv_aload_n E.1 E.2.1 dX5_ofClass_78 rfl (lv_at hl 0 rfl) ?_
                refine tw_get E hK hT 29 (Nat.le_of_ble_eq_true rfl) q1839 rfl (v := .int (sx z35 29)) rfl dX5_ofClass_79 ?_
                refine lv_imul E.1 E.2.1 dX5_ofClass_82 ?_
                refine lv_aload_n E.1 E.2.1 dX5_ofClass_83 rfl (lv_at hl 0 rfl) ?_
                refine tw_get E hK hT 67 (Nat.le_of_ble_eq_true rfl) q1877 rfl (v := .ref (ta 67)) rfl dX5_ofClass_84 ?_
                refine lv_iload E.1 E.2.1 dX5_ofClass_87 (lv_at hl 4 rfl) ?_
                obtain ⟨hin, hw⟩ := hw
                refine tw_iald E hK hT 67 rfl hin dX5_ofClass_89 ?_
                refine lv_iadd E.1 E.2.1 dX5_ofClass_90 ?_
                obtain ⟨hin, hw⟩ := hw
                refine tw_iald E hK hT 20 rfl hin dX5_ofClass_91 ?_
                refine lv_iload_n E.1 E.2.1 dX5_ofClass_92 rfl (lv_at hl 1 rfl) ?_
                refine lv_icmp_ne (tgt := 99) E.1 E.2.1 dX5_ofClass_93 (by decide) (fun c42 => ?_) (fun c42 => ?_)
                · replace hw := hw.1 (c42)
                  refine lv_iinc (k := 4) (v := x39 + nI 1) (lv' := [(4, .int (x39 + nI 1)), (0, .ref (ta 73)), (1, .int (i1)), (2, .int (i2)), (3, .int (x38))]) E.1 E.2.1 dX5_ofClass_99 hl rfl rfl (Nat.le_of_ble_eq_true rfl) rfl (fun ls hl => ?_)
                  refine lv_goto (tgt := 63) E.1 E.2.1 dX5_ofClass_102 (by decide) ?_
                  obtain ⟨n43, hnn43, hin43⟩ := hw
                  exact ih36 n43 hnn43 _ _ _ hin43 _ _ _ hT hS (lv_sub hl [1, 2, 3, 4, 0] rfl)
                · replace hw := hw.2 (c42)
                  refine lv_iinc (k := 3) (v := x38 + nI 1) (lv' := [(3, .int (x38 + nI 1)), (0, .ref (ta 73)), (1, .int (i1)), (2, .int (i2)), (4, .int (x39))]) E.1 E.2.1 dX5_ofClass_96 hl rfl rfl (Nat.le_of_ble_eq_true rfl) rfl (fun ls hl => ?_)
                  refine lv_iinc (k := 4) (v := x39 + nI 1) (lv' := [(4, .int (x39 + nI 1)), (3, .int (x38 + nI 1)), (0, .ref (ta 73)), (1, .int (i1)), (2, .int (i2))]) E.1 E.2.1 dX5_ofClass_99 hl rfl rfl (Nat.le_of_ble_eq_true rfl) rfl (fun ls hl => ?_)
                  refine lv_goto (tgt := 63) E.1 E.2.1 dX5_ofClass_102 (by decide) ?_
                  obtain ⟨n44, hnn44, hin44⟩ := hw
                  exact ih36 n44 hnn44 _ _ _ hin44 _ _ _ hT hS (lv_sub hl [2, 3, 4, 1, 0] rfl)
          exact L37 n40 _ _ _ hi46 _ _ _ hT hS (lv_sub hl [2, 3, 4, 1, 0] rfl)
      · replace hw := hw.2 (c10)
        refine lv_aload_n E.1 E.2.1 dX5_ofClass_38 rfl (lv_at hl 0 rfl) ?_
        refine tw_get E hK hT 19 (Nat.le_of_ble_eq_true rfl) q1829 rfl (v := .ref (ta 19)) rfl dX5_ofClass_39 ?_
        refine lv_bipush (v := nI 16) E.1 E.2.1 dX5_ofClass_42 rfl ?_
        refine lv_aload_n E.1 E.2.1 dX5_ofClass_44 rfl (lv_at hl 0 rfl) ?_
        refine tw_get E hK hT 29 (Nat.le_of_ble_eq_true rfl) q1839 rfl (v := .int (sx z7 29)) rfl dX5_ofClass_45 ?_
        refine lv_imul E.1 E.2.1 dX5_ofClass_48 ?_
        refine lv_iload_n E.1 E.2.1 dX5_ofClass_49 rfl (lv_at hl 1 rfl) ?_
        refine lv_iadd E.1 E.2.1 dX5_ofClass_50 ?_
        obtain ⟨hin, hw⟩ := hw
        refine tw_iald E hK hT 19 rfl hin dX5_ofClass_51 ?_
        exact tw_ireti E hr hlocks hT hS hw dX5_ofClass_52
    · replace hw := hw.2 (bi_z c9)
      refine lv_iconst (v := (-1)) E.1 E.2.1 dX5_ofClass_32 rfl ?_
      exact tw_ireti E hr hlocks hT hS hw dX5_ofClass_33
/-- name(II)I -/
def wp_name_2 (post : Int32 → TS → Prop) (z0 : TS) (i1 : Int32) (i2 : Int32) : Prop := ∀ z1, z1 = ux z0 2 (nI 0) → wp_classes (fun r3 z2 => wp_within (fun b5 z4 => (b5 = false → post ((-1)) z4) ∧ (b5 = true → (0 ≤ i2 → vp_in (((nI 16) * (sx z4 29)) + i1) 48 ∧ ∀ w8, w8 = sg z4 18 (((nI 16) * (sx z4 29)) + i1).toNatClampNeg → ∃ I9 : Nat → TS → Int32 → Int64 → Prop, (∃ n16, I9 n16 z4 (nI 0) w8) ∧ ∀ (n10 : Nat) (z11 : TS) (x14 : Int32) (w15 : Int64), I9 n10 z11 x14 w15 → (w15 ≤ 0 → (i2 < x14 → ∀ x19, x19 = x14 - (nI 1) → ∃ I20 : Nat → TS → Int64 → Int32 → Prop, (∃ n27, I20 n27 z11 w8 x19) ∧ ∀ (n21 : Nat) (z22 : TS) (w25 : Int64) (x26 : Int32), I20 n21 z22 w25 x26 → (x26 ≤ i2 → post ((((w25 - w25 / 256 * 256).toInt32) - (nI 97)) + (nI 1)) z22) ∧ (¬ x26 ≤ i2 → ∀ w29, w29 = w25 / 256 → ∃ n30, n30 < n21 ∧ I20 n30 z22 w29 (x26 + (-1)))) ∧ (¬ i2 < x14 → post (nI 0) z11)) ∧ (¬ w15 ≤ 0 → ∀ w33, w33 = w15 / 256 → ∃ n34, n34 < n10 ∧ I9 n34 z11 (x14 + nI 1) w33)) ∧ (¬ 0 ≤ i2 → post ((-1)) z4))) z2 i1 (nI 0) (r3 - (nI 1))) z1 (sx z1 29)
theorem hd_name_2 : yX5_name_2.cls = RX5 ∧ yX5_name_2.cls ≠ "java/lang/invoke/MethodHandle" ∧ yX5_name_2.cls ≠ "java/lang/invoke/VarHandle" ∧ (parseMethodDescriptor yX5_name_2.desc).map (fun d => d.parameters.length) = some 2 := by decide +kernel
set_option maxHeartbeats 4000000 in
theorem met_name_2 (l : Launch) (G : GP) (ta : Nat → Nat) (d : Nat) {post : Int32 → TS → Prop} {z0 : TS} {i1 : Int32} {i2 : Int32} (hw : wp_name_2 post z0 i1 i2) : Met l yX5_name_2 (ws_ yX5_name_2 cX5_name_2 8 (some .int)) (rmd (d + 1) 0 0) (tPc G ta z0 [.ref (ta 73), .int (i1), .int (i2)]) (tQi G ta post) 0 0 (TA ta) := by
  unfold wp_name_2 at hw
  refine tw_met (by decide) rfl (Nat.le_of_ble_eq_true rfl) ?_
  intro p e s m args below meth c ls E hr hlocks hK hT hS hl
  replace hl : lv_has ls 8 [(0, .ref (ta 73)), (1, .int (i1)), (2, .int (i2))] := hl
  refine lv_aload_n E.1 E.2.1 dX5_name_2_0 rfl (lv_at hl 0 rfl) ?_
  refine lv_iconst (v := nI 0) E.1 E.2.1 dX5_name_2_1 rfl ?_
  refine tw_puti E hK hT hS 2 (Nat.le_of_ble_eq_true rfl) q1812 rfl rfl rfl rfl dX5_name_2_2 (fun H locs hT hS => ?_)
  obtain ⟨z1, ez1⟩ : ∃ y, y = ux z0 2 (nI 0) := ⟨_, rfl⟩
  rw [← ez1] at hT
  replace hw := hw z1 ez1
  refine lv_iload_n E.1 E.2.1 dX5_name_2_5 rfl (lv_at hl 1 rfl) ?_
  refine lv_iconst (v := nI 0) E.1 E.2.1 dX5_name_2_6 rfl ?_
  refine lv_aload_n E.1 E.2.1 dX5_name_2_7 rfl (lv_at hl 0 rfl) ?_
  refine lv_aload_n E.1 E.2.1 dX5_name_2_8 rfl (lv_at hl 0 rfl) ?_
  refine tw_get E hK hT 29 (Nat.le_of_ble_eq_true rfl) q1839 rfl (v := .int (sx z1 29)) rfl dX5_name_2_9 ?_
  refine tw_callVi E hK hT hS (As := [.int (sx z1 29)]) (rest := [.int (nI 0), .int (i1)]) (met_classes l G ta (d) hw) (cwV 1 E.2.2.2.2 (lw_V q2219 q2221 qs87 q128 q2222) rfl rfl rfl hd_classes (rm_ok (by omega) (by decide))) rfl rfl hl.1 (Nat.le_of_ble_eq_true rfl) dX5_name_2_12 (fun r3 z2 H locs hw hT hS => ?_)
  refine lv_iconst (v := nI 1) E.1 E.2.1 dX5_name_2_15 rfl ?_
  refine lv_isub E.1 E.2.1 dX5_name_2_16 ?_
  refine tw_callSz E hK hT hS (As := [.int (i1), .int (nI 0), .int (r3 - (nI 1))]) (rest := []) (met_within l G ta (d) hw) (va_cwS 3 E.2.2.2.2 (lw_S q2048 q2049 q128 q2050) rfl rfl rfl hs_within (rm_ok (by omega) (by decide))) rfl rfl hl.1 (Nat.le_of_ble_eq_true rfl) dX5_name_2_17 (fun b5 z4 H locs hw hT hS => ?_)
  refine lv_if_eq (tgt := 27) E.1 E.2.1 dX5_name_2_20 (by decide) (fun c6 => ?_) (fun c6 => ?_)
  · replace hw := hw.1 (bi_z c6)
    refine lv_iconst (v := (-1)) E.1 E.2.1 dX5_name_2_27 rfl ?_
    exact tw_ireti E hr hlocks hT hS hw dX5_name_2_28
  · replace hw := hw.2 (bi_n c6)
    refine lv_iload_n E.1 E.2.1 dX5_name_2_23 rfl (lv_at hl 2 rfl) ?_
    refine lv_if_ge (tgt := 29) E.1 E.2.1 dX5_name_2_24 (by decide) (fun c7 => ?_) (fun c7 => ?_)
    · replace hw := hw.1 (c7)
      refine lv_aload_n E.1 E.2.1 dX5_name_2_29 rfl (lv_at hl 0 rfl) ?_
      refine tw_get E hK hT 18 (Nat.le_of_ble_eq_true rfl) q1828 rfl (v := .ref (ta 18)) rfl dX5_name_2_30 ?_
      refine lv_bipush (v := nI 16) E.1 E.2.1 dX5_name_2_33 rfl ?_
      refine lv_aload_n E.1 E.2.1 dX5_name_2_35 rfl (lv_at hl 0 rfl) ?_
      refine tw_get E hK hT 29 (Nat.le_of_ble_eq_true rfl) q1839 rfl (v := .int (sx z4 29)) rfl dX5_name_2_36 ?_
      refine lv_imul E.1 E.2.1 dX5_name_2_39 ?_
      refine lv_iload_n E.1 E.2.1 dX5_name_2_40 rfl (lv_at hl 1 rfl) ?_
      refine lv_iadd E.1 E.2.1 dX5_name_2_41 ?_
      obtain ⟨hin, hw⟩ := hw
      refine tw_lald E hK hT 18 rfl rfl hin dX5_name_2_42 ?_
      refine lv_topl (fun w8 ew8 => ?_)
      replace hw := hw w8 ew8
      refine lv_lstore_n (lv' := [(3, .long (w8)), (0, .ref (ta 73)), (1, .int (i1)), (2, .int (i2))]) E.1 E.2.1 dX5_name_2_43 rfl hl (Nat.le_of_ble_eq_true rfl) rfl (fun ls hl => ?_)
      refine lv_iconst (v := nI 0) E.1 E.2.1 dX5_name_2_44 rfl ?_
      refine lv_istore (lv' := [(5, .int (nI 0)), (3, .long (w8)), (0, .ref (ta 73)), (1, .int (i1)), (2, .int (i2))]) E.1 E.2.1 dX5_name_2_45 hl (Nat.le_of_ble_eq_true rfl) rfl (fun ls hl => ?_)
      refine lv_lload_n E.1 E.2.1 dX5_name_2_47 rfl (lv_at hl 1 rfl) ?_
      refine lv_lstore (lv' := [(6, .long (w8)), (5, .int (nI 0)), (3, .long (w8)), (0, .ref (ta 73)), (1, .int (i1)), (2, .int (i2))]) E.1 E.2.1 dX5_name_2_48 hl (Nat.le_of_ble_eq_true rfl) rfl (fun ls hl => ?_)
      obtain ⟨I9, ⟨n16, hi36⟩, hb35⟩ := hw
      have L13 : ∀ (n10 : Nat) (z11 : TS) (x14 : Int32) (w15 : Int64), I9 n10 z11 x14 w15 → ∀ (H : Heap) (locs : List Loc) (ls : Array Slot), TW G ta z11 H → va_S (TA ta) s.heap H locs → lv_has ls 8 [(2, .int (i2)), (3, .long (w8)), (5, .int (x14)), (6, .long (w15))] → W p l e (rmd (d + 1) 0 0) s m args below meth c H locs 0 0 (MQ below (tQi G ta post) args s 0 0 (TA ta)) (F0 m 50 ls []) := by
        intro n10
        induction n10 using Nat.strongRecOn with
        | _ n10 ih12 =>
          intro z11 x14 w15 hw H locs ls hT hS hl
          replace hw := hb35 n10 z11 x14 w15 hw
          refine lv_lload E.1 E.2.1 dX5_name_2_50 (lv_at hl 3 rfl) ?_
          refine lv_lconst (v := 0) E.1 E.2.1 dX5_name_2_52 rfl ?_
          refine W.lcmp E.1 E.2.1 dX5_name_2_53 ?_
          refine lv_if_le (tgt := 71) E.1 E.2.1 dX5_name_2_54 (by decide) (fun c17 => ?_) (fun c17 => ?_)
          · replace hw := hw.1 ((lg_cmp_le _ _).mp c17)
            refine lv_iload_n E.1 E.2.1 dX5_name_2_71 rfl (lv_at hl 0 rfl) ?_
            refine lv_iload E.1 E.2.1 dX5_name_2_72 (lv_at hl 2 rfl) ?_
            refine lv_icmp_lt (tgt := 79) E.1 E.2.1 dX5_name_2_74 (by decide) (fun c18 => ?_) (fun c18 => ?_)
            · replace hw := hw.1 (c18)
              refine lv_iload E.1 E.2.1 dX5_name_2_79 (lv_at hl 2 rfl) ?_
              refine lv_iconst (v := nI 1) E.1 E.2.1 dX5_name_2_81 rfl ?_
              refine lv_isub E.1 E.2.1 dX5_name_2_82 ?_
              refine lv_topi (fun x19 ex19 => ?_)
              replace hw := hw x19 ex19
              refine lv_istore (lv' := [(6, .int (x19)), (2, .int (i2)), (3, .long (w8)), (5, .int (x14))]) E.1 E.2.1 dX5_name_2_83 hl (Nat.le_of_ble_eq_true rfl) rfl (fun ls hl => ?_)
              obtain ⟨I20, ⟨n27, hi32⟩, hb31⟩ := hw
              have L24 : ∀ (n21 : Nat) (z22 : TS) (w25 : Int64) (x26 : Int32), I20 n21 z22 w25 x26 → ∀ (H : Heap) (locs : List Loc) (ls : Array Slot), TW G ta z22 H → va_S (TA ta) s.heap H locs → lv_has ls 8 [(2, .int (i2)), (3, .long (w25)), (6, .int (x26))] → W p l e (rmd (d + 1) 0 0) s m args below meth c H locs 0 0 (MQ below (tQi G ta post) args s 0 0 (TA ta)) (F0 m 85 ls []) := by
                intro n21
                induction n21 using Nat.strongRecOn with
                | _ n21 ih23 =>
                  intro z22 w25 x26 hw H locs ls hT hS hl
                  replace hw := hb31 n21 z22 w25 x26 hw
                  refine lv_iload E.1 E.2.1 dX5_name_2_85 (lv_at hl 2 rfl) ?_
                  refine lv_iload_n E.1 E.2.1 dX5_name_2_87 rfl (lv_at hl 0 rfl) ?_
                  refine lv_icmp_le (tgt := 103) E.1 E.2.1 dX5_name_2_88 (by decide) (fun c28 => ?_) (fun c28 => ?_)
                  · replace hw := hw.1 (c28)
                    refine lv_lload_n E.1 E.2.1 dX5_name_2_103 rfl (lv_at hl 1 rfl) ?_
                    refine lv_ldc2 (v := 256) E.1 E.2.1 E.2.2.2.1 (E.2.2.2.2 _ q2073) dX5_name_2_104 ?_
                    refine lv_lrem E.1 E.2.1 dX5_name_2_107 (by decide) ?_
                    refine lv_l2i E.1 E.2.1 dX5_name_2_108 rfl ?_
                    refine lv_bipush (v := nI 97) E.1 E.2.1 dX5_name_2_109 rfl ?_
                    refine lv_isub E.1 E.2.1 dX5_name_2_111 ?_
                    refine lv_iconst (v := nI 1) E.1 E.2.1 dX5_name_2_112 rfl ?_
                    refine lv_iadd E.1 E.2.1 dX5_name_2_113 ?_
                    exact tw_ireti E hr hlocks hT hS hw dX5_name_2_114
                  · replace hw := hw.2 (c28)
                    refine lv_lload_n E.1 E.2.1 dX5_name_2_91 rfl (lv_at hl 1 rfl) ?_
                    refine lv_ldc2 (v := 256) E.1 E.2.1 E.2.2.2.1 (E.2.2.2.2 _ q2073) dX5_name_2_92 ?_
                    refine lv_ldiv E.1 E.2.1 dX5_name_2_95 (by decide) ?_
                    refine lv_topl (fun w29 ew29 => ?_)
                    replace hw := hw w29 ew29
                    refine lv_lstore_n (lv' := [(3, .long (w29)), (2, .int (i2)), (6, .int (x26))]) E.1 E.2.1 dX5_name_2_96 rfl hl (Nat.le_of_ble_eq_true rfl) rfl (fun ls hl => ?_)
                    refine lv_iinc (k := 2) (v := x26 + (-1)) (lv' := [(6, .int (x26 + (-1))), (3, .long (w29)), (2, .int (i2))]) E.1 E.2.1 dX5_name_2_97 hl rfl rfl (Nat.le_of_ble_eq_true rfl) rfl (fun ls hl => ?_)
                    refine lv_goto (tgt := 85) E.1 E.2.1 dX5_name_2_100 (by decide) ?_
                    obtain ⟨n30, hnn30, hin30⟩ := hw
                    exact ih23 n30 hnn30 _ _ _ hin30 _ _ _ hT hS (lv_sub hl [2, 1, 0] rfl)
              exact L24 n27 _ _ _ hi32 _ _ _ hT hS (lv_sub hl [1, 2, 0] rfl)
            · replace hw := hw.2 (c18)
              refine lv_iconst (v := nI 0) E.1 E.2.1 dX5_name_2_77 rfl ?_
              exact tw_ireti E hr hlocks hT hS hw dX5_name_2_78
          · replace hw := hw.2 (fun h => c17 ((lg_cmp_le _ _).mpr h))
            refine lv_iinc (k := 2) (v := x14 + nI 1) (lv' := [(5, .int (x14 + nI 1)), (2, .int (i2)), (3, .long (w8)), (6, .long (w15))]) E.1 E.2.1 dX5_name_2_57 hl rfl rfl (Nat.le_of_ble_eq_true rfl) rfl (fun ls hl => ?_)
            refine lv_lload E.1 E.2.1 dX5_name_2_60 (lv_at hl 3 rfl) ?_
            refine lv_ldc2 (v := 256) E.1 E.2.1 E.2.2.2.1 (E.2.2.2.2 _ q2073) dX5_name_2_62 ?_
            refine lv_ldiv E.1 E.2.1 dX5_name_2_65 (by decide) ?_
            refine lv_topl (fun w33 ew33 => ?_)
            replace hw := hw w33 ew33
            refine lv_lstore (lv' := [(6, .long (w33)), (5, .int (x14 + nI 1)), (2, .int (i2)), (3, .long (w8))]) E.1 E.2.1 dX5_name_2_66 hl (Nat.le_of_ble_eq_true rfl) rfl (fun ls hl => ?_)
            refine lv_goto (tgt := 50) E.1 E.2.1 dX5_name_2_68 (by decide) ?_
            obtain ⟨n34, hnn34, hin34⟩ := hw
            exact ih12 n34 hnn34 _ _ _ hin34 _ _ _ hT hS (lv_sub hl [2, 3, 1, 0] rfl)
      exact L13 n16 _ _ _ hi36 _ _ _ hT hS (lv_sub hl [5, 2, 1, 0] rfl)
    · replace hw := hw.2 (c7)
      refine lv_iconst (v := (-1)) E.1 E.2.1 dX5_name_2_27 rfl ?_
      exact tw_ireti E hr hlocks hT hS hw dX5_name_2_28
/-- leaf(II)I -/
def wp_leaf_2 (post : Int32 → TS → Prop) (z0 : TS) (i1 : Int32) (i2 : Int32) : Prop := ∀ z1, z1 = ux z0 2 (nI 0) → wp_within (fun b3 z2 => (b3 = false → post ((-1)) z2) ∧ (b3 = true → wp_within (fun b6 z5 => (b6 = true → vp_in (i1) 40 ∧ ∀ x8, x8 = sf z5 67 i1.toNatClampNeg → (¬ i2 = 0 → (¬ i2 = (nI 1) → (¬ i2 = (nI 2) → ∃ I12 : Nat → TS → Int32 → Int32 → Prop, (∃ n19, I12 n19 z5 (nI 0) (nI 0)) ∧ ∀ (n13 : Nat) (z14 : TS) (x17 : Int32) (x18 : Int32), I12 n13 z14 x17 x18 → ((sx z14 34) ≤ x18 → post x17 z14) ∧ (¬ (sx z14 34) ≤ x18 → wp_leafFor (fun r22 z21 => (¬ r22 = x8 → ∃ n24, n24 < n13 ∧ I12 n24 z21 x17 (x18 + nI 1)) ∧ (r22 = x8 → ∃ n25, n25 < n13 ∧ I12 n25 z21 (x17 + nI 1) (x18 + nI 1))) z14 (sx z14 29) x18)) ∧ (i2 = (nI 2) → vp_in (x8) 40 ∧ ((sf z5 68 x8.toNatClampNeg) = 0 → post (nI 1) z5) ∧ (¬ (sf z5 68 x8.toNatClampNeg) = 0 → post (nI 0) z5))) ∧ (i2 = (nI 1) → vp_in (((nI 40) * (sx z5 29)) + x8) 120 ∧ post (sf z5 24 (((nI 40) * (sx z5 29)) + x8).toNatClampNeg) z5)) ∧ (i2 = 0 → vp_in (((nI 40) * (sx z5 29)) + x8) 120 ∧ post (sf z5 20 (((nI 40) * (sx z5 29)) + x8).toNatClampNeg) z5)) ∧ (b6 = false → post ((-1)) z5)) z2 i2 (nI 0) (nI 3))) z1 i1 (nI 0) ((sx z1 66) - (nI 1))
theorem hd_leaf_2 : yX5_leaf_2.cls = RX5 ∧ yX5_leaf_2.cls ≠ "java/lang/invoke/MethodHandle" ∧ yX5_leaf_2.cls ≠ "java/lang/invoke/VarHandle" ∧ (parseMethodDescriptor yX5_leaf_2.desc).map (fun d => d.parameters.length) = some 2 := by decide +kernel
set_option maxHeartbeats 4000000 in
theorem met_leaf_2 (l : Launch) (G : GP) (ta : Nat → Nat) (d : Nat) {post : Int32 → TS → Prop} {z0 : TS} {i1 : Int32} {i2 : Int32} (hw : wp_leaf_2 post z0 i1 i2) : Met l yX5_leaf_2 (ws_ yX5_leaf_2 cX5_leaf_2 6 (some .int)) (rmd (d + 404) 0 0) (tPc G ta z0 [.ref (ta 73), .int (i1), .int (i2)]) (tQi G ta post) 0 0 (TA ta) := by
  unfold wp_leaf_2 at hw
  refine tw_met (by decide) rfl (Nat.le_of_ble_eq_true rfl) ?_
  intro p e s m args below meth c ls E hr hlocks hK hT hS hl
  replace hl : lv_has ls 6 [(0, .ref (ta 73)), (1, .int (i1)), (2, .int (i2))] := hl
  refine lv_aload_n E.1 E.2.1 dX5_leaf_2_0 rfl (lv_at hl 0 rfl) ?_
  refine lv_iconst (v := nI 0) E.1 E.2.1 dX5_leaf_2_1 rfl ?_
  refine tw_puti E hK hT hS 2 (Nat.le_of_ble_eq_true rfl) q1812 rfl rfl rfl rfl dX5_leaf_2_2 (fun H locs hT hS => ?_)
  obtain ⟨z1, ez1⟩ : ∃ y, y = ux z0 2 (nI 0) := ⟨_, rfl⟩
  rw [← ez1] at hT
  replace hw := hw z1 ez1
  refine lv_iload_n E.1 E.2.1 dX5_leaf_2_5 rfl (lv_at hl 1 rfl) ?_
  refine lv_iconst (v := nI 0) E.1 E.2.1 dX5_leaf_2_6 rfl ?_
  refine lv_aload_n E.1 E.2.1 dX5_leaf_2_7 rfl (lv_at hl 0 rfl) ?_
  refine tw_get E hK hT 66 (Nat.le_of_ble_eq_true rfl) q1876 rfl (v := .int (sx z1 66)) rfl dX5_leaf_2_8 ?_
  refine lv_iconst (v := nI 1) E.1 E.2.1 dX5_leaf_2_11 rfl ?_
  refine lv_isub E.1 E.2.1 dX5_leaf_2_12 ?_
  refine tw_callSz E hK hT hS (As := [.int (i1), .int (nI 0), .int ((sx z1 66) - (nI 1))]) (rest := []) (met_within l G ta (d + 403) hw) (va_cwS 3 E.2.2.2.2 (lw_S q2048 q2049 q128 q2050) rfl rfl rfl hs_within (rm_ok (by omega) (by decide))) rfl rfl hl.1 (Nat.le_of_ble_eq_true rfl) dX5_leaf_2_13 (fun b3 z2 H locs hw hT hS => ?_)
  refine lv_if_eq (tgt := 28) E.1 E.2.1 dX5_leaf_2_16 (by decide) (fun c4 => ?_) (fun c4 => ?_)
  · replace hw := hw.1 (bi_z c4)
    refine lv_iconst (v := (-1)) E.1 E.2.1 dX5_leaf_2_28 rfl ?_
    exact tw_ireti E hr hlocks hT hS hw dX5_leaf_2_29
  · replace hw := hw.2 (bi_n c4)
    refine lv_iload_n E.1 E.2.1 dX5_leaf_2_19 rfl (lv_at hl 2 rfl) ?_
    refine lv_iconst (v := nI 0) E.1 E.2.1 dX5_leaf_2_20 rfl ?_
    refine lv_iconst (v := nI 3) E.1 E.2.1 dX5_leaf_2_21 rfl ?_
    refine tw_callSz E hK hT hS (As := [.int (i2), .int (nI 0), .int (nI 3)]) (rest := []) (met_within l G ta (d + 403) hw) (va_cwS 3 E.2.2.2.2 (lw_S q2048 q2049 q128 q2050) rfl rfl rfl hs_within (rm_ok (by omega) (by decide))) rfl rfl hl.1 (Nat.le_of_ble_eq_true rfl) dX5_leaf_2_22 (fun b6 z5 H locs hw hT hS => ?_)
    refine lv_if_ne (tgt := 30) E.1 E.2.1 dX5_leaf_2_25 (by decide) (fun c7 => ?_) (fun c7 => ?_)
    · replace hw := hw.1 (bi_n c7)
      refine lv_aload_n E.1 E.2.1 dX5_leaf_2_30 rfl (lv_at hl 0 rfl) ?_
      refine tw_get E hK hT 67 (Nat.le_of_ble_eq_true rfl) q1877 rfl (v := .ref (ta 67)) rfl dX5_leaf_2_31 ?_
      refine lv_iload_n E.1 E.2.1 dX5_leaf_2_34 rfl (lv_at hl 1 rfl) ?_
      obtain ⟨hin, hw⟩ := hw
      refine tw_iald E hK hT 67 rfl hin dX5_leaf_2_35 ?_
      refine lv_topi (fun x8 ex8 => ?_)
      replace hw := hw x8 ex8
      refine lv_istore_n (lv' := [(3, .int (x8)), (0, .ref (ta 73)), (1, .int (i1)), (2, .int (i2))]) E.1 E.2.1 dX5_leaf_2_36 rfl hl (Nat.le_of_ble_eq_true rfl) rfl (fun ls hl => ?_)
      refine lv_iload_n E.1 E.2.1 dX5_leaf_2_37 rfl (lv_at hl 3 rfl) ?_
      refine lv_if_ne (tgt := 56) E.1 E.2.1 dX5_leaf_2_38 (by decide) (fun c9 => ?_) (fun c9 => ?_)
      · replace hw := hw.1 (c9)
        refine lv_iload_n E.1 E.2.1 dX5_leaf_2_56 rfl (lv_at hl 3 rfl) ?_
        refine lv_iconst (v := nI 1) E.1 E.2.1 dX5_leaf_2_57 rfl ?_
        refine lv_icmp_ne (tgt := 76) E.1 E.2.1 dX5_leaf_2_58 (by decide) (fun c10 => ?_) (fun c10 => ?_)
        · replace hw := hw.1 (c10)
          refine lv_iload_n E.1 E.2.1 dX5_leaf_2_76 rfl (lv_at hl 3 rfl) ?_
          refine lv_iconst (v := nI 2) E.1 E.2.1 dX5_leaf_2_77 rfl ?_
          refine lv_icmp_ne (tgt := 96) E.1 E.2.1 dX5_leaf_2_78 (by decide) (fun c11 => ?_) (fun c11 => ?_)
          · replace hw := hw.1 (c11)
            refine lv_iconst (v := nI 0) E.1 E.2.1 dX5_leaf_2_96 rfl ?_
            refine lv_istore (lv' := [(4, .int (nI 0)), (3, .int (x8)), (0, .ref (ta 73)), (1, .int (i1)), (2, .int (i2))]) E.1 E.2.1 dX5_leaf_2_97 hl (Nat.le_of_ble_eq_true rfl) rfl (fun ls hl => ?_)
            refine lv_iconst (v := nI 0) E.1 E.2.1 dX5_leaf_2_99 rfl ?_
            refine lv_istore (lv' := [(5, .int (nI 0)), (4, .int (nI 0)), (3, .int (x8)), (0, .ref (ta 73)), (1, .int (i1)), (2, .int (i2))]) E.1 E.2.1 dX5_leaf_2_100 hl (Nat.le_of_ble_eq_true rfl) rfl (fun ls hl => ?_)
            obtain ⟨I12, ⟨n19, hi27⟩, hb26⟩ := hw
            have L16 : ∀ (n13 : Nat) (z14 : TS) (x17 : Int32) (x18 : Int32), I12 n13 z14 x17 x18 → ∀ (H : Heap) (locs : List Loc) (ls : Array Slot), TW G ta z14 H → va_S (TA ta) s.heap H locs → lv_has ls 6 [(0, .ref (ta 73)), (3, .int (x8)), (4, .int (x17)), (5, .int (x18))] → W p l e (rmd (d + 404) 0 0) s m args below meth c H locs 0 0 (MQ below (tQi G ta post) args s 0 0 (TA ta)) (F0 m 102 ls []) := by
              intro n13
              induction n13 using Nat.strongRecOn with
              | _ n13 ih15 =>
                intro z14 x17 x18 hw H locs ls hT hS hl
                replace hw := hb26 n13 z14 x17 x18 hw
                refine lv_iload E.1 E.2.1 dX5_leaf_2_102 (lv_at hl 3 rfl) ?_
                refine lv_aload_n E.1 E.2.1 dX5_leaf_2_104 rfl (lv_at hl 0 rfl) ?_
                refine tw_get E hK hT 34 (Nat.le_of_ble_eq_true rfl) q1844 rfl (v := .int (sx z14 34)) rfl dX5_leaf_2_105 ?_
                refine lv_icmp_ge (tgt := 134) E.1 E.2.1 dX5_leaf_2_108 (by decide) (fun c20 => ?_) (fun c20 => ?_)
                · replace hw := hw.1 (c20)
                  refine lv_iload E.1 E.2.1 dX5_leaf_2_134 (lv_at hl 2 rfl) ?_
                  exact tw_ireti E hr hlocks hT hS hw dX5_leaf_2_136
                · replace hw := hw.2 (c20)
                  refine lv_aload_n E.1 E.2.1 dX5_leaf_2_111 rfl (lv_at hl 0 rfl) ?_
                  refine lv_aload_n E.1 E.2.1 dX5_leaf_2_112 rfl (lv_at hl 0 rfl) ?_
                  refine tw_get E hK hT 29 (Nat.le_of_ble_eq_true rfl) q1839 rfl (v := .int (sx z14 29)) rfl dX5_leaf_2_113 ?_
                  refine lv_iload E.1 E.2.1 dX5_leaf_2_116 (lv_at hl 3 rfl) ?_
                  refine tw_callVi E hK hT hS (As := [.int (sx z14 29), .int (x18)]) (rest := []) (met_leafFor l G ta (d) hw) (cwV 2 E.2.2.2.2 (lw_V q2363 q2365 qs113 q128 q2366) rfl rfl rfl hd_leafFor (rm_ok (by omega) (by decide))) rfl rfl hl.1 (Nat.le_of_ble_eq_true rfl) dX5_leaf_2_118 (fun r22 z21 H locs hw hT hS => ?_)
                  refine lv_iload_n E.1 E.2.1 dX5_leaf_2_121 rfl (lv_at hl 1 rfl) ?_
                  refine lv_icmp_ne (tgt := 128) E.1 E.2.1 dX5_leaf_2_122 (by decide) (fun c23 => ?_) (fun c23 => ?_)
                  · replace hw := hw.1 (c23)
                    refine lv_iinc (k := 3) (v := x18 + nI 1) (lv' := [(5, .int (x18 + nI 1)), (0, .ref (ta 73)), (3, .int (x8)), (4, .int (x17))]) E.1 E.2.1 dX5_leaf_2_128 hl rfl rfl (Nat.le_of_ble_eq_true rfl) rfl (fun ls hl => ?_)
                    refine lv_goto (tgt := 102) E.1 E.2.1 dX5_leaf_2_131 (by decide) ?_
                    obtain ⟨n24, hnn24, hin24⟩ := hw
                    exact ih15 n24 hnn24 _ _ _ hin24 _ _ _ hT hS (lv_sub hl [1, 2, 3, 0] rfl)
                  · replace hw := hw.2 (c23)
                    refine lv_iinc (k := 2) (v := x17 + nI 1) (lv' := [(4, .int (x17 + nI 1)), (0, .ref (ta 73)), (3, .int (x8)), (5, .int (x18))]) E.1 E.2.1 dX5_leaf_2_125 hl rfl rfl (Nat.le_of_ble_eq_true rfl) rfl (fun ls hl => ?_)
                    refine lv_iinc (k := 3) (v := x18 + nI 1) (lv' := [(5, .int (x18 + nI 1)), (4, .int (x17 + nI 1)), (0, .ref (ta 73)), (3, .int (x8))]) E.1 E.2.1 dX5_leaf_2_128 hl rfl rfl (Nat.le_of_ble_eq_true rfl) rfl (fun ls hl => ?_)
                    refine lv_goto (tgt := 102) E.1 E.2.1 dX5_leaf_2_131 (by decide) ?_
                    obtain ⟨n25, hnn25, hin25⟩ := hw
                    exact ih15 n25 hnn25 _ _ _ hin25 _ _ _ hT hS (lv_sub hl [2, 3, 1, 0] rfl)
            exact L16 n19 _ _ _ hi27 _ _ _ hT hS (lv_sub hl [3, 2, 1, 0] rfl)
          · replace hw := hw.2 (c11)
            refine lv_aload_n E.1 E.2.1 dX5_leaf_2_81 rfl (lv_at hl 1 rfl) ?_
            refine tw_get E hK hT 68 (Nat.le_of_ble_eq_true rfl) q1878 rfl (v := .ref (ta 68)) rfl dX5_leaf_2_82 ?_
            refine lv_iload_n E.1 E.2.1 dX5_leaf_2_85 rfl (lv_at hl 0 rfl) ?_
            obtain ⟨hin, hw⟩ := hw
            refine tw_zald E hK hT hin dX5_leaf_2_86 ?_
            refine lv_if_eq (tgt := 94) E.1 E.2.1 dX5_leaf_2_87 (by decide) (fun c28 => ?_) (fun c28 => ?_)
            · replace hw := hw.1 (c28)
              refine lv_iconst (v := nI 1) E.1 E.2.1 dX5_leaf_2_94 rfl ?_
              exact tw_ireti E hr hlocks hT hS hw dX5_leaf_2_95
            · replace hw := hw.2 (c28)
              refine lv_iconst (v := nI 0) E.1 E.2.1 dX5_leaf_2_90 rfl ?_
              refine lv_goto (tgt := 95) E.1 E.2.1 dX5_leaf_2_91 (by decide) ?_
              exact tw_ireti E hr hlocks hT hS hw dX5_leaf_2_95
        · replace hw := hw.2 (c10)
          refine lv_aload_n E.1 E.2.1 dX5_leaf_2_61 rfl (lv_at hl 1 rfl) ?_
          refine tw_get E hK hT 24 (Nat.le_of_ble_eq_true rfl) q1834 rfl (v := .ref (ta 24)) rfl dX5_leaf_2_62 ?_
          refine lv_bipush (v := nI 40) E.1 E.2.1 dX5_leaf_2_65 rfl ?_
          refine lv_aload_n E.1 E.2.1 dX5_leaf_2_67 rfl (lv_at hl 1 rfl) ?_
          refine tw_get E hK hT 29 (Nat.le_of_ble_eq_true rfl) q1839 rfl (v := .int (sx z5 29)) rfl dX5_leaf_2_68 ?_
          refine lv_imul E.1 E.2.1 dX5_leaf_2_71 ?_
          refine lv_iload_n E.1 E.2.1 dX5_leaf_2_72 rfl (lv_at hl 0 rfl) ?_
          refine lv_iadd E.1 E.2.1 dX5_leaf_2_73 ?_
          obtain ⟨hin, hw⟩ := hw
          refine tw_iald E hK hT 24 rfl hin dX5_leaf_2_74 ?_
          exact tw_ireti E hr hlocks hT hS hw dX5_leaf_2_75
      · replace hw := hw.2 (c9)
        refine lv_aload_n E.1 E.2.1 dX5_leaf_2_41 rfl (lv_at hl 1 rfl) ?_
        refine tw_get E hK hT 20 (Nat.le_of_ble_eq_true rfl) q1830 rfl (v := .ref (ta 20)) rfl dX5_leaf_2_42 ?_
        refine lv_bipush (v := nI 40) E.1 E.2.1 dX5_leaf_2_45 rfl ?_
        refine lv_aload_n E.1 E.2.1 dX5_leaf_2_47 rfl (lv_at hl 1 rfl) ?_
        refine tw_get E hK hT 29 (Nat.le_of_ble_eq_true rfl) q1839 rfl (v := .int (sx z5 29)) rfl dX5_leaf_2_48 ?_
        refine lv_imul E.1 E.2.1 dX5_leaf_2_51 ?_
        refine lv_iload_n E.1 E.2.1 dX5_leaf_2_52 rfl (lv_at hl 0 rfl) ?_
        refine lv_iadd E.1 E.2.1 dX5_leaf_2_53 ?_
        obtain ⟨hin, hw⟩ := hw
        refine tw_iald E hK hT 20 rfl hin dX5_leaf_2_54 ?_
        exact tw_ireti E hr hlocks hT hS hw dX5_leaf_2_55
    · replace hw := hw.2 (bi_z c7)
      refine lv_iconst (v := (-1)) E.1 E.2.1 dX5_leaf_2_28 rfl ?_
      exact tw_ireti E hr hlocks hT hS hw dX5_leaf_2_29
/-- copies(II)V -/
def wp_copies (post : TS → Prop) (z0 : TS) (i1 : Int32) (i2 : Int32) : Prop := ∃ I1 : Nat → TS → Int32 → Prop, (∃ n7, I1 n7 z0 (nI 0)) ∧ ∀ (n2 : Nat) (z3 : TS) (x6 : Int32), I1 n2 z3 x6 → ((nI 7) ≤ x6 → ∃ I9 : Nat → TS → Int32 → Prop, (∃ n15, I9 n15 z3 (nI 0)) ∧ ∀ (n10 : Nat) (z11 : TS) (x14 : Int32), I9 n10 z11 x14 → ((nI 6) ≤ x14 → ∃ I17 : Nat → TS → Int32 → Prop, (∃ n23, I17 n23 z11 (nI 0)) ∧ ∀ (n18 : Nat) (z19 : TS) (x22 : Int32), I17 n18 z19 x22 → ((nI 18) ≤ x22 → ∃ I25 : Nat → TS → Int32 → Prop, (∃ n31, I25 n31 z19 (nI 0)) ∧ ∀ (n26 : Nat) (z27 : TS) (x30 : Int32), I25 n26 z27 x30 → ((nI 10) ≤ x30 → ∃ I33 : Nat → TS → Int32 → Prop, (∃ n39, I33 n39 z27 (nI 0)) ∧ ∀ (n34 : Nat) (z35 : TS) (x38 : Int32), I33 n34 z35 x38 → ((nI 30) ≤ x38 → ∃ I41 : Nat → TS → Int32 → Prop, (∃ n47, I41 n47 z35 (nI 0)) ∧ ∀ (n42 : Nat) (z43 : TS) (x46 : Int32), I41 n42 z43 x46 → ((nI 16) ≤ x46 → ∃ I49 : Nat → TS → Int32 → Prop, (∃ n55, I49 n55 z43 (nI 0)) ∧ ∀ (n50 : Nat) (z51 : TS) (x54 : Int32), I49 n50 z51 x54 → ((nI 40) ≤ x54 → ∃ I57 : Nat → TS → Int32 → Prop, (∃ n63, I57 n63 z51 (nI 0)) ∧ ∀ (n58 : Nat) (z59 : TS) (x62 : Int32), I57 n58 z59 x62 → ((nI 400) ≤ x62 → post z59) ∧ (¬ (nI 400) ≤ x62 → vp_in (((nI 400) * i1) + x62) 1200 ∧ vp_in (((nI 400) * i2) + x62) 1200 ∧ ∀ z65, z65 = uf z59 25 (((nI 400) * i2) + x62).toNatClampNeg (sf z59 25 (((nI 400) * i1) + x62).toNatClampNeg) → vp_in (((nI 400) * i1) + x62) 1200 ∧ vp_in (((nI 400) * i2) + x62) 1200 ∧ ∀ z66, z66 = uf z65 26 (((nI 400) * i2) + x62).toNatClampNeg (sf z65 26 (((nI 400) * i1) + x62).toNatClampNeg) → vp_in (((nI 400) * i1) + x62) 1200 ∧ vp_in (((nI 400) * i2) + x62) 1200 ∧ ∀ z67, z67 = uf z66 27 (((nI 400) * i2) + x62).toNatClampNeg (sf z66 27 (((nI 400) * i1) + x62).toNatClampNeg) → vp_in (((nI 400) * i1) + x62) 1200 ∧ vp_in (((nI 400) * i2) + x62) 1200 ∧ ∀ z68, z68 = uf z67 28 (((nI 400) * i2) + x62).toNatClampNeg (sf z67 28 (((nI 400) * i1) + x62).toNatClampNeg) → ∃ n69, n69 < n58 ∧ I57 n69 z68 (x62 + nI 1))) ∧ (¬ (nI 40) ≤ x54 → vp_in (((nI 40) * i1) + x54) 120 ∧ vp_in (((nI 40) * i2) + x54) 120 ∧ ∀ z72, z72 = uf z51 20 (((nI 40) * i2) + x54).toNatClampNeg (sf z51 20 (((nI 40) * i1) + x54).toNatClampNeg) → vp_in (((nI 40) * i1) + x54) 120 ∧ vp_in (((nI 40) * i2) + x54) 120 ∧ ∀ z73, z73 = uf z72 21 (((nI 40) * i2) + x54).toNatClampNeg (sf z72 21 (((nI 40) * i1) + x54).toNatClampNeg) → vp_in (((nI 40) * i1) + x54) 120 ∧ vp_in (((nI 40) * i2) + x54) 120 ∧ ∀ z74, z74 = uf z73 22 (((nI 40) * i2) + x54).toNatClampNeg (sf z73 22 (((nI 40) * i1) + x54).toNatClampNeg) → vp_in (((nI 40) * i1) + x54) 120 ∧ vp_in (((nI 40) * i2) + x54) 120 ∧ ∀ z75, z75 = uf z74 23 (((nI 40) * i2) + x54).toNatClampNeg (sf z74 23 (((nI 40) * i1) + x54).toNatClampNeg) → vp_in (((nI 40) * i1) + x54) 120 ∧ vp_in (((nI 40) * i2) + x54) 120 ∧ ∀ z76, z76 = uf z75 24 (((nI 40) * i2) + x54).toNatClampNeg (sf z75 24 (((nI 40) * i1) + x54).toNatClampNeg) → ∃ n77, n77 < n50 ∧ I49 n77 z76 (x54 + nI 1))) ∧ (¬ (nI 16) ≤ x46 → vp_in (((nI 16) * i1) + x46) 48 ∧ vp_in (((nI 16) * i2) + x46) 48 ∧ ∀ z80, z80 = ug z43 18 (((nI 16) * i2) + x46).toNatClampNeg (sg z43 18 (((nI 16) * i1) + x46).toNatClampNeg) → vp_in (((nI 16) * i1) + x46) 48 ∧ vp_in (((nI 16) * i2) + x46) 48 ∧ ∀ z81, z81 = uf z80 19 (((nI 16) * i2) + x46).toNatClampNeg (sf z80 19 (((nI 16) * i1) + x46).toNatClampNeg) → ∃ n82, n82 < n42 ∧ I41 n82 z81 (x46 + nI 1))) ∧ (¬ (nI 30) ≤ x38 → vp_in (((nI 30) * i1) + x38) 90 ∧ vp_in (((nI 30) * i2) + x38) 90 ∧ ∀ z85, z85 = uf z35 16 (((nI 30) * i2) + x38).toNatClampNeg (sf z35 16 (((nI 30) * i1) + x38).toNatClampNeg) → vp_in (((nI 30) * i1) + x38) 90 ∧ vp_in (((nI 30) * i2) + x38) 90 ∧ ∀ z86, z86 = uf z85 17 (((nI 30) * i2) + x38).toNatClampNeg (sf z85 17 (((nI 30) * i1) + x38).toNatClampNeg) → ∃ n87, n87 < n34 ∧ I33 n87 z86 (x38 + nI 1))) ∧ (¬ (nI 10) ≤ x30 → vp_in (((nI 10) * i1) + x30) 30 ∧ vp_in (((nI 10) * i2) + x30) 30 ∧ ∀ z90, z90 = uf z27 9 (((nI 10) * i2) + x30).toNatClampNeg (sf z27 9 (((nI 10) * i1) + x30).toNatClampNeg) → vp_in (((nI 10) * i1) + x30) 30 ∧ vp_in (((nI 10) * i2) + x30) 30 ∧ ∀ z91, z91 = uf z90 10 (((nI 10) * i2) + x30).toNatClampNeg (sf z90 10 (((nI 10) * i1) + x30).toNatClampNeg) → vp_in (((nI 10) * i1) + x30) 30 ∧ vp_in (((nI 10) * i2) + x30) 30 ∧ ∀ z92, z92 = uf z91 11 (((nI 10) * i2) + x30).toNatClampNeg (sf z91 11 (((nI 10) * i1) + x30).toNatClampNeg) → vp_in (((nI 10) * i1) + x30) 30 ∧ vp_in (((nI 10) * i2) + x30) 30 ∧ ∀ z93, z93 = uf z92 12 (((nI 10) * i2) + x30).toNatClampNeg (sf z92 12 (((nI 10) * i1) + x30).toNatClampNeg) → vp_in (((nI 10) * i1) + x30) 30 ∧ vp_in (((nI 10) * i2) + x30) 30 ∧ ∀ z94, z94 = uf z93 13 (((nI 10) * i2) + x30).toNatClampNeg (sf z93 13 (((nI 10) * i1) + x30).toNatClampNeg) → vp_in (((nI 10) * i1) + x30) 30 ∧ vp_in (((nI 10) * i2) + x30) 30 ∧ ∀ z95, z95 = uf z94 14 (((nI 10) * i2) + x30).toNatClampNeg (sf z94 14 (((nI 10) * i1) + x30).toNatClampNeg) → vp_in (((nI 10) * i1) + x30) 30 ∧ vp_in (((nI 10) * i2) + x30) 30 ∧ ∀ z96, z96 = uf z95 15 (((nI 10) * i2) + x30).toNatClampNeg (sf z95 15 (((nI 10) * i1) + x30).toNatClampNeg) → ∃ n97, n97 < n26 ∧ I25 n97 z96 (x30 + nI 1))) ∧ (¬ (nI 18) ≤ x22 → vp_in (((nI 18) * i1) + x22) 54 ∧ vp_in (((nI 18) * i2) + x22) 54 ∧ ∀ z100, z100 = uf z19 6 (((nI 18) * i2) + x22).toNatClampNeg (sf z19 6 (((nI 18) * i1) + x22).toNatClampNeg) → vp_in (((nI 18) * i1) + x22) 54 ∧ vp_in (((nI 18) * i2) + x22) 54 ∧ ∀ z101, z101 = uf z100 7 (((nI 18) * i2) + x22).toNatClampNeg (sf z100 7 (((nI 18) * i1) + x22).toNatClampNeg) → ∃ n102, n102 < n18 ∧ I17 n102 z101 (x22 + nI 1))) ∧ (¬ (nI 6) ≤ x14 → vp_in (((nI 6) * i1) + x14) 18 ∧ vp_in (((nI 6) * i2) + x14) 18 ∧ ∀ z105, z105 = ug z11 4 (((nI 6) * i2) + x14).toNatClampNeg (sg z11 4 (((nI 6) * i1) + x14).toNatClampNeg) → vp_in (((nI 6) * i1) + x14) 18 ∧ vp_in (((nI 6) * i2) + x14) 18 ∧ ∀ z106, z106 = uf z105 5 (((nI 6) * i2) + x14).toNatClampNeg (sf z105 5 (((nI 6) * i1) + x14).toNatClampNeg) → vp_in (((nI 6) * i1) + x14) 18 ∧ vp_in (((nI 6) * i2) + x14) 18 ∧ ∀ z107, z107 = uf z106 8 (((nI 6) * i2) + x14).toNatClampNeg (sf z106 8 (((nI 6) * i1) + x14).toNatClampNeg) → ∃ n108, n108 < n10 ∧ I9 n108 z107 (x14 + nI 1))) ∧ (¬ (nI 7) ≤ x6 → vp_in (((nI 7) * i1) + x6) 21 ∧ vp_in (((nI 7) * i2) + x6) 21 ∧ ∀ z111, z111 = uf z3 3 (((nI 7) * i2) + x6).toNatClampNeg (sf z3 3 (((nI 7) * i1) + x6).toNatClampNeg) → ∃ n112, n112 < n2 ∧ I1 n112 z111 (x6 + nI 1))
theorem hd_copies : yX5_copies.cls = RX5 ∧ yX5_copies.cls ≠ "java/lang/invoke/MethodHandle" ∧ yX5_copies.cls ≠ "java/lang/invoke/VarHandle" ∧ (parseMethodDescriptor yX5_copies.desc).map (fun d => d.parameters.length) = some 2 := by decide +kernel
set_option maxHeartbeats 4000000 in
theorem met_copies (l : Launch) (G : GP) (ta : Nat → Nat) (d : Nat) {post : TS → Prop} {z0 : TS} {i1 : Int32} {i2 : Int32} (hw : wp_copies post z0 i1 i2) : Met l yX5_copies (ws_ yX5_copies cX5_copies 4 none) (rmd (d + 0) 0 0) (tPc G ta z0 [.ref (ta 73), .int (i1), .int (i2)]) (tQv G ta post) 0 0 (TA ta) := by
  unfold wp_copies at hw
  refine tw_met (by decide) rfl (Nat.le_of_ble_eq_true rfl) ?_
  intro p e s m args below meth c ls E hr hlocks hK hT hS hl
  replace hl : lv_has ls 4 [(0, .ref (ta 73)), (1, .int (i1)), (2, .int (i2))] := hl
  refine lv_iconst (v := nI 0) E.1 E.2.1 dX5_copies_0 rfl ?_
  refine lv_istore_n (lv' := [(3, .int (nI 0)), (0, .ref (ta 73)), (1, .int (i1)), (2, .int (i2))]) E.1 E.2.1 dX5_copies_1 rfl hl (Nat.le_of_ble_eq_true rfl) rfl (fun ls hl => ?_)
  obtain ⟨I1, ⟨n7, hi114⟩, hb113⟩ := hw
  have L5 : ∀ (n2 : Nat) (z3 : TS) (x6 : Int32), I1 n2 z3 x6 → ∀ (H : Heap) (locs : List Loc) (ls : Array Slot), TW G ta z3 H → va_S (TA ta) s.heap H locs → lv_has ls 4 [(0, .ref (ta 73)), (1, .int (i1)), (2, .int (i2)), (3, .int (x6))] → W p l e (rmd (d + 0) 0 0) s m args below meth c H locs 0 0 (MQ below (tQv G ta post) args s 0 0 (TA ta)) (F0 m 2 ls []) := by
    intro n2
    induction n2 using Nat.strongRecOn with
    | _ n2 ih4 =>
      intro z3 x6 hw H locs ls hT hS hl
      replace hw := hb113 n2 z3 x6 hw
      refine lv_iload_n E.1 E.2.1 dX5_copies_2 rfl (lv_at hl 3 rfl) ?_
      refine lv_bipush (v := nI 7) E.1 E.2.1 dX5_copies_3 rfl ?_
      refine lv_icmp_ge (tgt := 36) E.1 E.2.1 dX5_copies_5 (by decide) (fun c8 => ?_) (fun c8 => ?_)
      · replace hw := hw.1 (c8)
        refine lv_iconst (v := nI 0) E.1 E.2.1 dX5_copies_36 rfl ?_
        refine lv_istore_n (lv' := [(3, .int (nI 0)), (0, .ref (ta 73)), (1, .int (i1)), (2, .int (i2))]) E.1 E.2.1 dX5_copies_37 rfl hl (Nat.le_of_ble_eq_true rfl) rfl (fun ls hl => ?_)
        obtain ⟨I9, ⟨n15, hi110⟩, hb109⟩ := hw
        have L13 : ∀ (n10 : Nat) (z11 : TS) (x14 : Int32), I9 n10 z11 x14 → ∀ (H : Heap) (locs : List Loc) (ls : Array Slot), TW G ta z11 H → va_S (TA ta) s.heap H locs → lv_has ls 4 [(0, .ref (ta 73)), (1, .int (i1)), (2, .int (i2)), (3, .int (x14))] → W p l e (rmd (d + 0) 0 0) s m args below meth c H locs 0 0 (MQ below (tQv G ta post) args s 0 0 (TA ta)) (F0 m 38 ls []) := by
          intro n10
          induction n10 using Nat.strongRecOn with
          | _ n10 ih12 =>
            intro z11 x14 hw H locs ls hT hS hl
            replace hw := hb109 n10 z11 x14 hw
            refine lv_iload_n E.1 E.2.1 dX5_copies_38 rfl (lv_at hl 3 rfl) ?_
            refine lv_bipush (v := nI 6) E.1 E.2.1 dX5_copies_39 rfl ?_
            refine lv_icmp_ge (tgt := 116) E.1 E.2.1 dX5_copies_41 (by decide) (fun c16 => ?_) (fun c16 => ?_)
            · replace hw := hw.1 (c16)
              refine lv_iconst (v := nI 0) E.1 E.2.1 dX5_copies_116 rfl ?_
              refine lv_istore_n (lv' := [(3, .int (nI 0)), (0, .ref (ta 73)), (1, .int (i1)), (2, .int (i2))]) E.1 E.2.1 dX5_copies_117 rfl hl (Nat.le_of_ble_eq_true rfl) rfl (fun ls hl => ?_)
              obtain ⟨I17, ⟨n23, hi104⟩, hb103⟩ := hw
              have L21 : ∀ (n18 : Nat) (z19 : TS) (x22 : Int32), I17 n18 z19 x22 → ∀ (H : Heap) (locs : List Loc) (ls : Array Slot), TW G ta z19 H → va_S (TA ta) s.heap H locs → lv_has ls 4 [(0, .ref (ta 73)), (1, .int (i1)), (2, .int (i2)), (3, .int (x22))] → W p l e (rmd (d + 0) 0 0) s m args below meth c H locs 0 0 (MQ below (tQv G ta post) args s 0 0 (TA ta)) (F0 m 118 ls []) := by
                intro n18
                induction n18 using Nat.strongRecOn with
                | _ n18 ih20 =>
                  intro z19 x22 hw H locs ls hT hS hl
                  replace hw := hb103 n18 z19 x22 hw
                  refine lv_iload_n E.1 E.2.1 dX5_copies_118 rfl (lv_at hl 3 rfl) ?_
                  refine lv_bipush (v := nI 18) E.1 E.2.1 dX5_copies_119 rfl ?_
                  refine lv_icmp_ge (tgt := 174) E.1 E.2.1 dX5_copies_121 (by decide) (fun c24 => ?_) (fun c24 => ?_)
                  · replace hw := hw.1 (c24)
                    refine lv_iconst (v := nI 0) E.1 E.2.1 dX5_copies_174 rfl ?_
                    refine lv_istore_n (lv' := [(3, .int (nI 0)), (0, .ref (ta 73)), (1, .int (i1)), (2, .int (i2))]) E.1 E.2.1 dX5_copies_175 rfl hl (Nat.le_of_ble_eq_true rfl) rfl (fun ls hl => ?_)
                    obtain ⟨I25, ⟨n31, hi99⟩, hb98⟩ := hw
                    have L29 : ∀ (n26 : Nat) (z27 : TS) (x30 : Int32), I25 n26 z27 x30 → ∀ (H : Heap) (locs : List Loc) (ls : Array Slot), TW G ta z27 H → va_S (TA ta) s.heap H locs → lv_has ls 4 [(0, .ref (ta 73)), (1, .int (i1)), (2, .int (i2)), (3, .int (x30))] → W p l e (rmd (d + 0) 0 0) s m args below meth c H locs 0 0 (MQ below (tQv G ta post) args s 0 0 (TA ta)) (F0 m 176 ls []) := by
                      intro n26
                      induction n26 using Nat.strongRecOn with
                      | _ n26 ih28 =>
                        intro z27 x30 hw H locs ls hT hS hl
                        replace hw := hb98 n26 z27 x30 hw
                        refine lv_iload_n E.1 E.2.1 dX5_copies_176 rfl (lv_at hl 3 rfl) ?_
                        refine lv_bipush (v := nI 10) E.1 E.2.1 dX5_copies_177 rfl ?_
                        refine lv_icmp_ge (tgt := 342) E.1 E.2.1 dX5_copies_179 (by decide) (fun c32 => ?_) (fun c32 => ?_)
                        · replace hw := hw.1 (c32)
                          refine lv_iconst (v := nI 0) E.1 E.2.1 dX5_copies_342 rfl ?_
                          refine lv_istore_n (lv' := [(3, .int (nI 0)), (0, .ref (ta 73)), (1, .int (i1)), (2, .int (i2))]) E.1 E.2.1 dX5_copies_343 rfl hl (Nat.le_of_ble_eq_true rfl) rfl (fun ls hl => ?_)
                          obtain ⟨I33, ⟨n39, hi89⟩, hb88⟩ := hw
                          have L37 : ∀ (n34 : Nat) (z35 : TS) (x38 : Int32), I33 n34 z35 x38 → ∀ (H : Heap) (locs : List Loc) (ls : Array Slot), TW G ta z35 H → va_S (TA ta) s.heap H locs → lv_has ls 4 [(0, .ref (ta 73)), (1, .int (i1)), (2, .int (i2)), (3, .int (x38))] → W p l e (rmd (d + 0) 0 0) s m args below meth c H locs 0 0 (MQ below (tQv G ta post) args s 0 0 (TA ta)) (F0 m 344 ls []) := by
                            intro n34
                            induction n34 using Nat.strongRecOn with
                            | _ n34 ih36 =>
                              intro z35 x38 hw H locs ls hT hS hl
                              replace hw := hb88 n34 z35 x38 hw
                              refine lv_iload_n E.1 E.2.1 dX5_copies_344 rfl (lv_at hl 3 rfl) ?_
                              refine lv_bipush (v := nI 30) E.1 E.2.1 dX5_copies_345 rfl ?_
                              refine lv_icmp_ge (tgt := 400) E.1 E.2.1 dX5_copies_347 (by decide) (fun c40 => ?_) (fun c40 => ?_)
                              · replace hw := hw.1 (c40)
                                refine lv_iconst (v := nI 0) E.1 E.2.1 dX5_copies_400 rfl ?_
                                refine lv_istore_n (lv' := [(3, .int (nI 0)), (0, .ref (ta 73)), (1, .int (i1)), (2, .int (i2))]) E.1 E.2.1 dX5_copies_401 rfl hl (Nat.le_of_ble_eq_true rfl) rfl (fun ls hl => ?_)
                                obtain ⟨I41, ⟨n47, hi84⟩, hb83⟩ := hw
                                have L45 : ∀ (n42 : Nat) (z43 : TS) (x46 : Int32), I41 n42 z43 x46 → ∀ (H : Heap) (locs : List Loc) (ls : Array Slot), TW G ta z43 H → va_S (TA ta) s.heap H locs → lv_has ls 4 [(0, .ref (ta 73)), (1, .int (i1)), (2, .int (i2)), (3, .int (x46))] → W p l e (rmd (d + 0) 0 0) s m args below meth c H locs 0 0 (MQ below (tQv G ta post) args s 0 0 (TA ta)) (F0 m 402 ls []) := by
                                  intro n42
                                  induction n42 using Nat.strongRecOn with
                                  | _ n42 ih44 =>
                                    intro z43 x46 hw H locs ls hT hS hl
                                    replace hw := hb83 n42 z43 x46 hw
                                    refine lv_iload_n E.1 E.2.1 dX5_copies_402 rfl (lv_at hl 3 rfl) ?_
                                    refine lv_bipush (v := nI 16) E.1 E.2.1 dX5_copies_403 rfl ?_
                                    refine lv_icmp_ge (tgt := 458) E.1 E.2.1 dX5_copies_405 (by decide) (fun c48 => ?_) (fun c48 => ?_)
                                    · replace hw := hw.1 (c48)
                                      refine lv_iconst (v := nI 0) E.1 E.2.1 dX5_copies_458 rfl ?_
                                      refine lv_istore_n (lv' := [(3, .int (nI 0)), (0, .ref (ta 73)), (1, .int (i1)), (2, .int (i2))]) E.1 E.2.1 dX5_copies_459 rfl hl (Nat.le_of_ble_eq_true rfl) rfl (fun ls hl => ?_)
                                      obtain ⟨I49, ⟨n55, hi79⟩, hb78⟩ := hw
                                      have L53 : ∀ (n50 : Nat) (z51 : TS) (x54 : Int32), I49 n50 z51 x54 → ∀ (H : Heap) (locs : List Loc) (ls : Array Slot), TW G ta z51 H → va_S (TA ta) s.heap H locs → lv_has ls 4 [(0, .ref (ta 73)), (1, .int (i1)), (2, .int (i2)), (3, .int (x54))] → W p l e (rmd (d + 0) 0 0) s m args below meth c H locs 0 0 (MQ below (tQv G ta post) args s 0 0 (TA ta)) (F0 m 460 ls []) := by
                                        intro n50
                                        induction n50 using Nat.strongRecOn with
                                        | _ n50 ih52 =>
                                          intro z51 x54 hw H locs ls hT hS hl
                                          replace hw := hb78 n50 z51 x54 hw
                                          refine lv_iload_n E.1 E.2.1 dX5_copies_460 rfl (lv_at hl 3 rfl) ?_
                                          refine lv_bipush (v := nI 40) E.1 E.2.1 dX5_copies_461 rfl ?_
                                          refine lv_icmp_ge (tgt := 582) E.1 E.2.1 dX5_copies_463 (by decide) (fun c56 => ?_) (fun c56 => ?_)
                                          · replace hw := hw.1 (c56)
                                            refine lv_iconst (v := nI 0) E.1 E.2.1 dX5_copies_582 rfl ?_
                                            refine lv_istore_n (lv' := [(3, .int (nI 0)), (0, .ref (ta 73)), (1, .int (i1)), (2, .int (i2))]) E.1 E.2.1 dX5_copies_583 rfl hl (Nat.le_of_ble_eq_true rfl) rfl (fun ls hl => ?_)
                                            obtain ⟨I57, ⟨n63, hi71⟩, hb70⟩ := hw
                                            have L61 : ∀ (n58 : Nat) (z59 : TS) (x62 : Int32), I57 n58 z59 x62 → ∀ (H : Heap) (locs : List Loc) (ls : Array Slot), TW G ta z59 H → va_S (TA ta) s.heap H locs → lv_has ls 4 [(0, .ref (ta 73)), (1, .int (i1)), (2, .int (i2)), (3, .int (x62))] → W p l e (rmd (d + 0) 0 0) s m args below meth c H locs 0 0 (MQ below (tQv G ta post) args s 0 0 (TA ta)) (F0 m 584 ls []) := by
                                              intro n58
                                              induction n58 using Nat.strongRecOn with
                                              | _ n58 ih60 =>
                                                intro z59 x62 hw H locs ls hT hS hl
                                                replace hw := hb70 n58 z59 x62 hw
                                                refine lv_iload_n E.1 E.2.1 dX5_copies_584 rfl (lv_at hl 3 rfl) ?_
                                                refine lv_sipush (v := nI 400) E.1 E.2.1 dX5_copies_585 rfl ?_
                                                refine lv_icmp_ge (tgt := 693) E.1 E.2.1 dX5_copies_588 (by decide) (fun c64 => ?_) (fun c64 => ?_)
                                                · replace hw := hw.1 (c64)
                                                  exact tw_vret E hr hlocks hT hS hw dX5_copies_693
                                                · replace hw := hw.2 (c64)
                                                  refine lv_aload_n E.1 E.2.1 dX5_copies_591 rfl (lv_at hl 0 rfl) ?_
                                                  refine tw_get E hK hT 25 (Nat.le_of_ble_eq_true rfl) q1835 rfl (v := .ref (ta 25)) rfl dX5_copies_592 ?_
                                                  refine lv_sipush (v := nI 400) E.1 E.2.1 dX5_copies_595 rfl ?_
                                                  refine lv_iload_n E.1 E.2.1 dX5_copies_598 rfl (lv_at hl 2 rfl) ?_
                                                  refine lv_imul E.1 E.2.1 dX5_copies_599 ?_
                                                  refine lv_iload_n E.1 E.2.1 dX5_copies_600 rfl (lv_at hl 3 rfl) ?_
                                                  refine lv_iadd E.1 E.2.1 dX5_copies_601 ?_
                                                  refine lv_aload_n E.1 E.2.1 dX5_copies_602 rfl (lv_at hl 0 rfl) ?_
                                                  refine tw_get E hK hT 25 (Nat.le_of_ble_eq_true rfl) q1835 rfl (v := .ref (ta 25)) rfl dX5_copies_603 ?_
                                                  refine lv_sipush (v := nI 400) E.1 E.2.1 dX5_copies_606 rfl ?_
                                                  refine lv_iload_n E.1 E.2.1 dX5_copies_609 rfl (lv_at hl 1 rfl) ?_
                                                  refine lv_imul E.1 E.2.1 dX5_copies_610 ?_
                                                  refine lv_iload_n E.1 E.2.1 dX5_copies_611 rfl (lv_at hl 3 rfl) ?_
                                                  refine lv_iadd E.1 E.2.1 dX5_copies_612 ?_
                                                  obtain ⟨hin, hw⟩ := hw
                                                  refine tw_iald E hK hT 25 rfl hin dX5_copies_613 ?_
                                                  obtain ⟨hin, hw⟩ := hw
                                                  refine tw_iast E hK hT hS 25 rfl hin dX5_copies_614 (fun H locs hT hS => ?_)
                                                  obtain ⟨z65, ez65⟩ : ∃ y, y = uf z59 25 (((nI 400) * i2) + x62).toNatClampNeg (sf z59 25 (((nI 400) * i1) + x62).toNatClampNeg) := ⟨_, rfl⟩
                                                  rw [← ez65] at hT
                                                  replace hw := hw z65 ez65
                                                  refine lv_aload_n E.1 E.2.1 dX5_copies_615 rfl (lv_at hl 0 rfl) ?_
                                                  refine tw_get E hK hT 26 (Nat.le_of_ble_eq_true rfl) q1836 rfl (v := .ref (ta 26)) rfl dX5_copies_616 ?_
                                                  refine lv_sipush (v := nI 400) E.1 E.2.1 dX5_copies_619 rfl ?_
                                                  refine lv_iload_n E.1 E.2.1 dX5_copies_622 rfl (lv_at hl 2 rfl) ?_
                                                  refine lv_imul E.1 E.2.1 dX5_copies_623 ?_
                                                  refine lv_iload_n E.1 E.2.1 dX5_copies_624 rfl (lv_at hl 3 rfl) ?_
                                                  refine lv_iadd E.1 E.2.1 dX5_copies_625 ?_
                                                  refine lv_aload_n E.1 E.2.1 dX5_copies_626 rfl (lv_at hl 0 rfl) ?_
                                                  refine tw_get E hK hT 26 (Nat.le_of_ble_eq_true rfl) q1836 rfl (v := .ref (ta 26)) rfl dX5_copies_627 ?_
                                                  refine lv_sipush (v := nI 400) E.1 E.2.1 dX5_copies_630 rfl ?_
                                                  refine lv_iload_n E.1 E.2.1 dX5_copies_633 rfl (lv_at hl 1 rfl) ?_
                                                  refine lv_imul E.1 E.2.1 dX5_copies_634 ?_
                                                  refine lv_iload_n E.1 E.2.1 dX5_copies_635 rfl (lv_at hl 3 rfl) ?_
                                                  refine lv_iadd E.1 E.2.1 dX5_copies_636 ?_
                                                  obtain ⟨hin, hw⟩ := hw
                                                  refine tw_iald E hK hT 26 rfl hin dX5_copies_637 ?_
                                                  obtain ⟨hin, hw⟩ := hw
                                                  refine tw_iast E hK hT hS 26 rfl hin dX5_copies_638 (fun H locs hT hS => ?_)
                                                  obtain ⟨z66, ez66⟩ : ∃ y, y = uf z65 26 (((nI 400) * i2) + x62).toNatClampNeg (sf z65 26 (((nI 400) * i1) + x62).toNatClampNeg) := ⟨_, rfl⟩
                                                  rw [← ez66] at hT
                                                  replace hw := hw z66 ez66
                                                  refine lv_aload_n E.1 E.2.1 dX5_copies_639 rfl (lv_at hl 0 rfl) ?_
                                                  refine tw_get E hK hT 27 (Nat.le_of_ble_eq_true rfl) q1837 rfl (v := .ref (ta 27)) rfl dX5_copies_640 ?_
                                                  refine lv_sipush (v := nI 400) E.1 E.2.1 dX5_copies_643 rfl ?_
                                                  refine lv_iload_n E.1 E.2.1 dX5_copies_646 rfl (lv_at hl 2 rfl) ?_
                                                  refine lv_imul E.1 E.2.1 dX5_copies_647 ?_
                                                  refine lv_iload_n E.1 E.2.1 dX5_copies_648 rfl (lv_at hl 3 rfl) ?_
                                                  refine lv_iadd E.1 E.2.1 dX5_copies_649 ?_
                                                  refine lv_aload_n E.1 E.2.1 dX5_copies_650 rfl (lv_at hl 0 rfl) ?_
                                                  refine tw_get E hK hT 27 (Nat.le_of_ble_eq_true rfl) q1837 rfl (v := .ref (ta 27)) rfl dX5_copies_651 ?_
                                                  refine lv_sipush (v := nI 400) E.1 E.2.1 dX5_copies_654 rfl ?_
                                                  refine lv_iload_n E.1 E.2.1 dX5_copies_657 rfl (lv_at hl 1 rfl) ?_
                                                  refine lv_imul E.1 E.2.1 dX5_copies_658 ?_
                                                  refine lv_iload_n E.1 E.2.1 dX5_copies_659 rfl (lv_at hl 3 rfl) ?_
                                                  refine lv_iadd E.1 E.2.1 dX5_copies_660 ?_
                                                  obtain ⟨hin, hw⟩ := hw
                                                  refine tw_iald E hK hT 27 rfl hin dX5_copies_661 ?_
                                                  obtain ⟨hin, hw⟩ := hw
                                                  refine tw_iast E hK hT hS 27 rfl hin dX5_copies_662 (fun H locs hT hS => ?_)
                                                  obtain ⟨z67, ez67⟩ : ∃ y, y = uf z66 27 (((nI 400) * i2) + x62).toNatClampNeg (sf z66 27 (((nI 400) * i1) + x62).toNatClampNeg) := ⟨_, rfl⟩
                                                  rw [← ez67] at hT
                                                  replace hw := hw z67 ez67
                                                  refine lv_aload_n E.1 E.2.1 dX5_copies_663 rfl (lv_at hl 0 rfl) ?_
                                                  refine tw_get E hK hT 28 (Nat.le_of_ble_eq_true rfl) q1838 rfl (v := .ref (ta 28)) rfl dX5_copies_664 ?_
                                                  refine lv_sipush (v := nI 400) E.1 E.2.1 dX5_copies_667 rfl ?_
                                                  refine lv_iload_n E.1 E.2.1 dX5_copies_670 rfl (lv_at hl 2 rfl) ?_
                                                  refine lv_imul E.1 E.2.1 dX5_copies_671 ?_
                                                  refine lv_iload_n E.1 E.2.1 dX5_copies_672 rfl (lv_at hl 3 rfl) ?_
                                                  refine lv_iadd E.1 E.2.1 dX5_copies_673 ?_
                                                  refine lv_aload_n E.1 E.2.1 dX5_copies_674 rfl (lv_at hl 0 rfl) ?_
                                                  refine tw_get E hK hT 28 (Nat.le_of_ble_eq_true rfl) q1838 rfl (v := .ref (ta 28)) rfl dX5_copies_675 ?_
                                                  refine lv_sipush (v := nI 400) E.1 E.2.1 dX5_copies_678 rfl ?_
                                                  refine lv_iload_n E.1 E.2.1 dX5_copies_681 rfl (lv_at hl 1 rfl) ?_
                                                  refine lv_imul E.1 E.2.1 dX5_copies_682 ?_
                                                  refine lv_iload_n E.1 E.2.1 dX5_copies_683 rfl (lv_at hl 3 rfl) ?_
                                                  refine lv_iadd E.1 E.2.1 dX5_copies_684 ?_
                                                  obtain ⟨hin, hw⟩ := hw
                                                  refine tw_iald E hK hT 28 rfl hin dX5_copies_685 ?_
                                                  obtain ⟨hin, hw⟩ := hw
                                                  refine tw_iast E hK hT hS 28 rfl hin dX5_copies_686 (fun H locs hT hS => ?_)
                                                  obtain ⟨z68, ez68⟩ : ∃ y, y = uf z67 28 (((nI 400) * i2) + x62).toNatClampNeg (sf z67 28 (((nI 400) * i1) + x62).toNatClampNeg) := ⟨_, rfl⟩
                                                  rw [← ez68] at hT
                                                  replace hw := hw z68 ez68
                                                  refine lv_iinc (k := 3) (v := x62 + nI 1) (lv' := [(3, .int (x62 + nI 1)), (0, .ref (ta 73)), (1, .int (i1)), (2, .int (i2))]) E.1 E.2.1 dX5_copies_687 hl rfl rfl (Nat.le_of_ble_eq_true rfl) rfl (fun ls hl => ?_)
                                                  refine lv_goto (tgt := 584) E.1 E.2.1 dX5_copies_690 (by decide) ?_
                                                  obtain ⟨n69, hnn69, hin69⟩ := hw
                                                  exact ih60 n69 hnn69 _ _ hin69 _ _ _ hT hS (lv_sub hl [1, 2, 3, 0] rfl)
                                            exact L61 n63 _ _ hi71 _ _ _ hT hS (lv_sub hl [1, 2, 3, 0] rfl)
                                          · replace hw := hw.2 (c56)
                                            refine lv_aload_n E.1 E.2.1 dX5_copies_466 rfl (lv_at hl 0 rfl) ?_
                                            refine tw_get E hK hT 20 (Nat.le_of_ble_eq_true rfl) q1830 rfl (v := .ref (ta 20)) rfl dX5_copies_467 ?_
                                            refine lv_bipush (v := nI 40) E.1 E.2.1 dX5_copies_470 rfl ?_
                                            refine lv_iload_n E.1 E.2.1 dX5_copies_472 rfl (lv_at hl 2 rfl) ?_
                                            refine lv_imul E.1 E.2.1 dX5_copies_473 ?_
                                            refine lv_iload_n E.1 E.2.1 dX5_copies_474 rfl (lv_at hl 3 rfl) ?_
                                            refine lv_iadd E.1 E.2.1 dX5_copies_475 ?_
                                            refine lv_aload_n E.1 E.2.1 dX5_copies_476 rfl (lv_at hl 0 rfl) ?_
                                            refine tw_get E hK hT 20 (Nat.le_of_ble_eq_true rfl) q1830 rfl (v := .ref (ta 20)) rfl dX5_copies_477 ?_
                                            refine lv_bipush (v := nI 40) E.1 E.2.1 dX5_copies_480 rfl ?_
                                            refine lv_iload_n E.1 E.2.1 dX5_copies_482 rfl (lv_at hl 1 rfl) ?_
                                            refine lv_imul E.1 E.2.1 dX5_copies_483 ?_
                                            refine lv_iload_n E.1 E.2.1 dX5_copies_484 rfl (lv_at hl 3 rfl) ?_
                                            refine lv_iadd E.1 E.2.1 dX5_copies_485 ?_
                                            obtain ⟨hin, hw⟩ := hw
                                            refine tw_iald E hK hT 20 rfl hin dX5_copies_486 ?_
                                            obtain ⟨hin, hw⟩ := hw
                                            refine tw_iast E hK hT hS 20 rfl hin dX5_copies_487 (fun H locs hT hS => ?_)
                                            obtain ⟨z72, ez72⟩ : ∃ y, y = uf z51 20 (((nI 40) * i2) + x54).toNatClampNeg (sf z51 20 (((nI 40) * i1) + x54).toNatClampNeg) := ⟨_, rfl⟩
                                            rw [← ez72] at hT
                                            replace hw := hw z72 ez72
                                            refine lv_aload_n E.1 E.2.1 dX5_copies_488 rfl (lv_at hl 0 rfl) ?_
                                            refine tw_get E hK hT 21 (Nat.le_of_ble_eq_true rfl) q1831 rfl (v := .ref (ta 21)) rfl dX5_copies_489 ?_
                                            refine lv_bipush (v := nI 40) E.1 E.2.1 dX5_copies_492 rfl ?_
                                            refine lv_iload_n E.1 E.2.1 dX5_copies_494 rfl (lv_at hl 2 rfl) ?_
                                            refine lv_imul E.1 E.2.1 dX5_copies_495 ?_
                                            refine lv_iload_n E.1 E.2.1 dX5_copies_496 rfl (lv_at hl 3 rfl) ?_
                                            refine lv_iadd E.1 E.2.1 dX5_copies_497 ?_
                                            refine lv_aload_n E.1 E.2.1 dX5_copies_498 rfl (lv_at hl 0 rfl) ?_
                                            refine tw_get E hK hT 21 (Nat.le_of_ble_eq_true rfl) q1831 rfl (v := .ref (ta 21)) rfl dX5_copies_499 ?_
                                            refine lv_bipush (v := nI 40) E.1 E.2.1 dX5_copies_502 rfl ?_
                                            refine lv_iload_n E.1 E.2.1 dX5_copies_504 rfl (lv_at hl 1 rfl) ?_
                                            refine lv_imul E.1 E.2.1 dX5_copies_505 ?_
                                            refine lv_iload_n E.1 E.2.1 dX5_copies_506 rfl (lv_at hl 3 rfl) ?_
                                            refine lv_iadd E.1 E.2.1 dX5_copies_507 ?_
                                            obtain ⟨hin, hw⟩ := hw
                                            refine tw_iald E hK hT 21 rfl hin dX5_copies_508 ?_
                                            obtain ⟨hin, hw⟩ := hw
                                            refine tw_iast E hK hT hS 21 rfl hin dX5_copies_509 (fun H locs hT hS => ?_)
                                            obtain ⟨z73, ez73⟩ : ∃ y, y = uf z72 21 (((nI 40) * i2) + x54).toNatClampNeg (sf z72 21 (((nI 40) * i1) + x54).toNatClampNeg) := ⟨_, rfl⟩
                                            rw [← ez73] at hT
                                            replace hw := hw z73 ez73
                                            refine lv_aload_n E.1 E.2.1 dX5_copies_510 rfl (lv_at hl 0 rfl) ?_
                                            refine tw_get E hK hT 22 (Nat.le_of_ble_eq_true rfl) q1832 rfl (v := .ref (ta 22)) rfl dX5_copies_511 ?_
                                            refine lv_bipush (v := nI 40) E.1 E.2.1 dX5_copies_514 rfl ?_
                                            refine lv_iload_n E.1 E.2.1 dX5_copies_516 rfl (lv_at hl 2 rfl) ?_
                                            refine lv_imul E.1 E.2.1 dX5_copies_517 ?_
                                            refine lv_iload_n E.1 E.2.1 dX5_copies_518 rfl (lv_at hl 3 rfl) ?_
                                            refine lv_iadd E.1 E.2.1 dX5_copies_519 ?_
                                            refine lv_aload_n E.1 E.2.1 dX5_copies_520 rfl (lv_at hl 0 rfl) ?_
                                            refine tw_get E hK hT 22 (Nat.le_of_ble_eq_true rfl) q1832 rfl (v := .ref (ta 22)) rfl dX5_copies_521 ?_
                                            refine lv_bipush (v := nI 40) E.1 E.2.1 dX5_copies_524 rfl ?_
                                            refine lv_iload_n E.1 E.2.1 dX5_copies_526 rfl (lv_at hl 1 rfl) ?_
                                            refine lv_imul E.1 E.2.1 dX5_copies_527 ?_
                                            refine lv_iload_n E.1 E.2.1 dX5_copies_528 rfl (lv_at hl 3 rfl) ?_
                                            refine lv_iadd E.1 E.2.1 dX5_copies_529 ?_
                                            obtain ⟨hin, hw⟩ := hw
                                            refine tw_iald E hK hT 22 rfl hin dX5_copies_530 ?_
                                            obtain ⟨hin, hw⟩ := hw
                                            refine tw_iast E hK hT hS 22 rfl hin dX5_copies_531 (fun H locs hT hS => ?_)
                                            obtain ⟨z74, ez74⟩ : ∃ y, y = uf z73 22 (((nI 40) * i2) + x54).toNatClampNeg (sf z73 22 (((nI 40) * i1) + x54).toNatClampNeg) := ⟨_, rfl⟩
                                            rw [← ez74] at hT
                                            replace hw := hw z74 ez74
                                            refine lv_aload_n E.1 E.2.1 dX5_copies_532 rfl (lv_at hl 0 rfl) ?_
                                            refine tw_get E hK hT 23 (Nat.le_of_ble_eq_true rfl) q1833 rfl (v := .ref (ta 23)) rfl dX5_copies_533 ?_
                                            refine lv_bipush (v := nI 40) E.1 E.2.1 dX5_copies_536 rfl ?_
                                            refine lv_iload_n E.1 E.2.1 dX5_copies_538 rfl (lv_at hl 2 rfl) ?_
                                            refine lv_imul E.1 E.2.1 dX5_copies_539 ?_
                                            refine lv_iload_n E.1 E.2.1 dX5_copies_540 rfl (lv_at hl 3 rfl) ?_
                                            refine lv_iadd E.1 E.2.1 dX5_copies_541 ?_
                                            refine lv_aload_n E.1 E.2.1 dX5_copies_542 rfl (lv_at hl 0 rfl) ?_
                                            refine tw_get E hK hT 23 (Nat.le_of_ble_eq_true rfl) q1833 rfl (v := .ref (ta 23)) rfl dX5_copies_543 ?_
                                            refine lv_bipush (v := nI 40) E.1 E.2.1 dX5_copies_546 rfl ?_
                                            refine lv_iload_n E.1 E.2.1 dX5_copies_548 rfl (lv_at hl 1 rfl) ?_
                                            refine lv_imul E.1 E.2.1 dX5_copies_549 ?_
                                            refine lv_iload_n E.1 E.2.1 dX5_copies_550 rfl (lv_at hl 3 rfl) ?_
                                            refine lv_iadd E.1 E.2.1 dX5_copies_551 ?_
                                            obtain ⟨hin, hw⟩ := hw
                                            refine tw_iald E hK hT 23 rfl hin dX5_copies_552 ?_
                                            obtain ⟨hin, hw⟩ := hw
                                            refine tw_iast E hK hT hS 23 rfl hin dX5_copies_553 (fun H locs hT hS => ?_)
                                            obtain ⟨z75, ez75⟩ : ∃ y, y = uf z74 23 (((nI 40) * i2) + x54).toNatClampNeg (sf z74 23 (((nI 40) * i1) + x54).toNatClampNeg) := ⟨_, rfl⟩
                                            rw [← ez75] at hT
                                            replace hw := hw z75 ez75
                                            refine lv_aload_n E.1 E.2.1 dX5_copies_554 rfl (lv_at hl 0 rfl) ?_
                                            refine tw_get E hK hT 24 (Nat.le_of_ble_eq_true rfl) q1834 rfl (v := .ref (ta 24)) rfl dX5_copies_555 ?_
                                            refine lv_bipush (v := nI 40) E.1 E.2.1 dX5_copies_558 rfl ?_
                                            refine lv_iload_n E.1 E.2.1 dX5_copies_560 rfl (lv_at hl 2 rfl) ?_
                                            refine lv_imul E.1 E.2.1 dX5_copies_561 ?_
                                            refine lv_iload_n E.1 E.2.1 dX5_copies_562 rfl (lv_at hl 3 rfl) ?_
                                            refine lv_iadd E.1 E.2.1 dX5_copies_563 ?_
                                            refine lv_aload_n E.1 E.2.1 dX5_copies_564 rfl (lv_at hl 0 rfl) ?_
                                            refine tw_get E hK hT 24 (Nat.le_of_ble_eq_true rfl) q1834 rfl (v := .ref (ta 24)) rfl dX5_copies_565 ?_
                                            refine lv_bipush (v := nI 40) E.1 E.2.1 dX5_copies_568 rfl ?_
                                            refine lv_iload_n E.1 E.2.1 dX5_copies_570 rfl (lv_at hl 1 rfl) ?_
                                            refine lv_imul E.1 E.2.1 dX5_copies_571 ?_
                                            refine lv_iload_n E.1 E.2.1 dX5_copies_572 rfl (lv_at hl 3 rfl) ?_
                                            refine lv_iadd E.1 E.2.1 dX5_copies_573 ?_
                                            obtain ⟨hin, hw⟩ := hw
                                            refine tw_iald E hK hT 24 rfl hin dX5_copies_574 ?_
                                            obtain ⟨hin, hw⟩ := hw
                                            refine tw_iast E hK hT hS 24 rfl hin dX5_copies_575 (fun H locs hT hS => ?_)
                                            obtain ⟨z76, ez76⟩ : ∃ y, y = uf z75 24 (((nI 40) * i2) + x54).toNatClampNeg (sf z75 24 (((nI 40) * i1) + x54).toNatClampNeg) := ⟨_, rfl⟩
                                            rw [← ez76] at hT
                                            replace hw := hw z76 ez76
                                            refine lv_iinc (k := 3) (v := x54 + nI 1) (lv' := [(3, .int (x54 + nI 1)), (0, .ref (ta 73)), (1, .int (i1)), (2, .int (i2))]) E.1 E.2.1 dX5_copies_576 hl rfl rfl (Nat.le_of_ble_eq_true rfl) rfl (fun ls hl => ?_)
                                            refine lv_goto (tgt := 460) E.1 E.2.1 dX5_copies_579 (by decide) ?_
                                            obtain ⟨n77, hnn77, hin77⟩ := hw
                                            exact ih52 n77 hnn77 _ _ hin77 _ _ _ hT hS (lv_sub hl [1, 2, 3, 0] rfl)
                                      exact L53 n55 _ _ hi79 _ _ _ hT hS (lv_sub hl [1, 2, 3, 0] rfl)
                                    · replace hw := hw.2 (c48)
                                      refine lv_aload_n E.1 E.2.1 dX5_copies_408 rfl (lv_at hl 0 rfl) ?_
                                      refine tw_get E hK hT 18 (Nat.le_of_ble_eq_true rfl) q1828 rfl (v := .ref (ta 18)) rfl dX5_copies_409 ?_
                                      refine lv_bipush (v := nI 16) E.1 E.2.1 dX5_copies_412 rfl ?_
                                      refine lv_iload_n E.1 E.2.1 dX5_copies_414 rfl (lv_at hl 2 rfl) ?_
                                      refine lv_imul E.1 E.2.1 dX5_copies_415 ?_
                                      refine lv_iload_n E.1 E.2.1 dX5_copies_416 rfl (lv_at hl 3 rfl) ?_
                                      refine lv_iadd E.1 E.2.1 dX5_copies_417 ?_
                                      refine lv_aload_n E.1 E.2.1 dX5_copies_418 rfl (lv_at hl 0 rfl) ?_
                                      refine tw_get E hK hT 18 (Nat.le_of_ble_eq_true rfl) q1828 rfl (v := .ref (ta 18)) rfl dX5_copies_419 ?_
                                      refine lv_bipush (v := nI 16) E.1 E.2.1 dX5_copies_422 rfl ?_
                                      refine lv_iload_n E.1 E.2.1 dX5_copies_424 rfl (lv_at hl 1 rfl) ?_
                                      refine lv_imul E.1 E.2.1 dX5_copies_425 ?_
                                      refine lv_iload_n E.1 E.2.1 dX5_copies_426 rfl (lv_at hl 3 rfl) ?_
                                      refine lv_iadd E.1 E.2.1 dX5_copies_427 ?_
                                      obtain ⟨hin, hw⟩ := hw
                                      refine tw_lald E hK hT 18 rfl rfl hin dX5_copies_428 ?_
                                      obtain ⟨hin, hw⟩ := hw
                                      refine tw_last E hK hT hS 18 rfl rfl hin dX5_copies_429 (fun H locs hT hS => ?_)
                                      obtain ⟨z80, ez80⟩ : ∃ y, y = ug z43 18 (((nI 16) * i2) + x46).toNatClampNeg (sg z43 18 (((nI 16) * i1) + x46).toNatClampNeg) := ⟨_, rfl⟩
                                      rw [← ez80] at hT
                                      replace hw := hw z80 ez80
                                      refine lv_aload_n E.1 E.2.1 dX5_copies_430 rfl (lv_at hl 0 rfl) ?_
                                      refine tw_get E hK hT 19 (Nat.le_of_ble_eq_true rfl) q1829 rfl (v := .ref (ta 19)) rfl dX5_copies_431 ?_
                                      refine lv_bipush (v := nI 16) E.1 E.2.1 dX5_copies_434 rfl ?_
                                      refine lv_iload_n E.1 E.2.1 dX5_copies_436 rfl (lv_at hl 2 rfl) ?_
                                      refine lv_imul E.1 E.2.1 dX5_copies_437 ?_
                                      refine lv_iload_n E.1 E.2.1 dX5_copies_438 rfl (lv_at hl 3 rfl) ?_
                                      refine lv_iadd E.1 E.2.1 dX5_copies_439 ?_
                                      refine lv_aload_n E.1 E.2.1 dX5_copies_440 rfl (lv_at hl 0 rfl) ?_
                                      refine tw_get E hK hT 19 (Nat.le_of_ble_eq_true rfl) q1829 rfl (v := .ref (ta 19)) rfl dX5_copies_441 ?_
                                      refine lv_bipush (v := nI 16) E.1 E.2.1 dX5_copies_444 rfl ?_
                                      refine lv_iload_n E.1 E.2.1 dX5_copies_446 rfl (lv_at hl 1 rfl) ?_
                                      refine lv_imul E.1 E.2.1 dX5_copies_447 ?_
                                      refine lv_iload_n E.1 E.2.1 dX5_copies_448 rfl (lv_at hl 3 rfl) ?_
                                      refine lv_iadd E.1 E.2.1 dX5_copies_449 ?_
                                      obtain ⟨hin, hw⟩ := hw
                                      refine tw_iald E hK hT 19 rfl hin dX5_copies_450 ?_
                                      obtain ⟨hin, hw⟩ := hw
                                      refine tw_iast E hK hT hS 19 rfl hin dX5_copies_451 (fun H locs hT hS => ?_)
                                      obtain ⟨z81, ez81⟩ : ∃ y, y = uf z80 19 (((nI 16) * i2) + x46).toNatClampNeg (sf z80 19 (((nI 16) * i1) + x46).toNatClampNeg) := ⟨_, rfl⟩
                                      rw [← ez81] at hT
                                      replace hw := hw z81 ez81
                                      refine lv_iinc (k := 3) (v := x46 + nI 1) (lv' := [(3, .int (x46 + nI 1)), (0, .ref (ta 73)), (1, .int (i1)), (2, .int (i2))]) E.1 E.2.1 dX5_copies_452 hl rfl rfl (Nat.le_of_ble_eq_true rfl) rfl (fun ls hl => ?_)
                                      refine lv_goto (tgt := 402) E.1 E.2.1 dX5_copies_455 (by decide) ?_
                                      obtain ⟨n82, hnn82, hin82⟩ := hw
                                      exact ih44 n82 hnn82 _ _ hin82 _ _ _ hT hS (lv_sub hl [1, 2, 3, 0] rfl)
                                exact L45 n47 _ _ hi84 _ _ _ hT hS (lv_sub hl [1, 2, 3, 0] rfl)
                              · replace hw := hw.2 (c40)
                                refine lv_aload_n E.1 E.2.1 dX5_copies_350 rfl (lv_at hl 0 rfl) ?_
                                refine tw_get E hK hT 16 (Nat.le_of_ble_eq_true rfl) q1826 rfl (v := .ref (ta 16)) rfl dX5_copies_351 ?_
                                refine lv_bipush (v := nI 30) E.1 E.2.1 dX5_copies_354 rfl ?_
                                refine lv_iload_n E.1 E.2.1 dX5_copies_356 rfl (lv_at hl 2 rfl) ?_
                                refine lv_imul E.1 E.2.1 dX5_copies_357 ?_
                                refine lv_iload_n E.1 E.2.1 dX5_copies_358 rfl (lv_at hl 3 rfl) ?_
                                refine lv_iadd E.1 E.2.1 dX5_copies_359 ?_
                                refine lv_aload_n E.1 E.2.1 dX5_copies_360 rfl (lv_at hl 0 rfl) ?_
                                refine tw_get E hK hT 16 (Nat.le_of_ble_eq_true rfl) q1826 rfl (v := .ref (ta 16)) rfl dX5_copies_361 ?_
                                refine lv_bipush (v := nI 30) E.1 E.2.1 dX5_copies_364 rfl ?_
                                refine lv_iload_n E.1 E.2.1 dX5_copies_366 rfl (lv_at hl 1 rfl) ?_
                                refine lv_imul E.1 E.2.1 dX5_copies_367 ?_
                                refine lv_iload_n E.1 E.2.1 dX5_copies_368 rfl (lv_at hl 3 rfl) ?_
                                refine lv_iadd E.1 E.2.1 dX5_copies_369 ?_
                                obtain ⟨hin, hw⟩ := hw
                                refine tw_iald E hK hT 16 rfl hin dX5_copies_370 ?_
                                obtain ⟨hin, hw⟩ := hw
                                refine tw_iast E hK hT hS 16 rfl hin dX5_copies_371 (fun H locs hT hS => ?_)
                                obtain ⟨z85, ez85⟩ : ∃ y, y = uf z35 16 (((nI 30) * i2) + x38).toNatClampNeg (sf z35 16 (((nI 30) * i1) + x38).toNatClampNeg) := ⟨_, rfl⟩
                                rw [← ez85] at hT
                                replace hw := hw z85 ez85
                                refine lv_aload_n E.1 E.2.1 dX5_copies_372 rfl (lv_at hl 0 rfl) ?_
                                refine tw_get E hK hT 17 (Nat.le_of_ble_eq_true rfl) q1827 rfl (v := .ref (ta 17)) rfl dX5_copies_373 ?_
                                refine lv_bipush (v := nI 30) E.1 E.2.1 dX5_copies_376 rfl ?_
                                refine lv_iload_n E.1 E.2.1 dX5_copies_378 rfl (lv_at hl 2 rfl) ?_
                                refine lv_imul E.1 E.2.1 dX5_copies_379 ?_
                                refine lv_iload_n E.1 E.2.1 dX5_copies_380 rfl (lv_at hl 3 rfl) ?_
                                refine lv_iadd E.1 E.2.1 dX5_copies_381 ?_
                                refine lv_aload_n E.1 E.2.1 dX5_copies_382 rfl (lv_at hl 0 rfl) ?_
                                refine tw_get E hK hT 17 (Nat.le_of_ble_eq_true rfl) q1827 rfl (v := .ref (ta 17)) rfl dX5_copies_383 ?_
                                refine lv_bipush (v := nI 30) E.1 E.2.1 dX5_copies_386 rfl ?_
                                refine lv_iload_n E.1 E.2.1 dX5_copies_388 rfl (lv_at hl 1 rfl) ?_
                                refine lv_imul E.1 E.2.1 dX5_copies_389 ?_
                                refine lv_iload_n E.1 E.2.1 dX5_copies_390 rfl (lv_at hl 3 rfl) ?_
                                refine lv_iadd E.1 E.2.1 dX5_copies_391 ?_
                                obtain ⟨hin, hw⟩ := hw
                                refine tw_iald E hK hT 17 rfl hin dX5_copies_392 ?_
                                obtain ⟨hin, hw⟩ := hw
                                refine tw_iast E hK hT hS 17 rfl hin dX5_copies_393 (fun H locs hT hS => ?_)
                                obtain ⟨z86, ez86⟩ : ∃ y, y = uf z85 17 (((nI 30) * i2) + x38).toNatClampNeg (sf z85 17 (((nI 30) * i1) + x38).toNatClampNeg) := ⟨_, rfl⟩
                                rw [← ez86] at hT
                                replace hw := hw z86 ez86
                                refine lv_iinc (k := 3) (v := x38 + nI 1) (lv' := [(3, .int (x38 + nI 1)), (0, .ref (ta 73)), (1, .int (i1)), (2, .int (i2))]) E.1 E.2.1 dX5_copies_394 hl rfl rfl (Nat.le_of_ble_eq_true rfl) rfl (fun ls hl => ?_)
                                refine lv_goto (tgt := 344) E.1 E.2.1 dX5_copies_397 (by decide) ?_
                                obtain ⟨n87, hnn87, hin87⟩ := hw
                                exact ih36 n87 hnn87 _ _ hin87 _ _ _ hT hS (lv_sub hl [1, 2, 3, 0] rfl)
                          exact L37 n39 _ _ hi89 _ _ _ hT hS (lv_sub hl [1, 2, 3, 0] rfl)
                        · replace hw := hw.2 (c32)
                          refine lv_aload_n E.1 E.2.1 dX5_copies_182 rfl (lv_at hl 0 rfl) ?_
                          refine tw_get E hK hT 9 (Nat.le_of_ble_eq_true rfl) q1819 rfl (v := .ref (ta 9)) rfl dX5_copies_183 ?_
                          refine lv_bipush (v := nI 10) E.1 E.2.1 dX5_copies_186 rfl ?_
                          refine lv_iload_n E.1 E.2.1 dX5_copies_188 rfl (lv_at hl 2 rfl) ?_
                          refine lv_imul E.1 E.2.1 dX5_copies_189 ?_
                          refine lv_iload_n E.1 E.2.1 dX5_copies_190 rfl (lv_at hl 3 rfl) ?_
                          refine lv_iadd E.1 E.2.1 dX5_copies_191 ?_
                          refine lv_aload_n E.1 E.2.1 dX5_copies_192 rfl (lv_at hl 0 rfl) ?_
                          refine tw_get E hK hT 9 (Nat.le_of_ble_eq_true rfl) q1819 rfl (v := .ref (ta 9)) rfl dX5_copies_193 ?_
                          refine lv_bipush (v := nI 10) E.1 E.2.1 dX5_copies_196 rfl ?_
                          refine lv_iload_n E.1 E.2.1 dX5_copies_198 rfl (lv_at hl 1 rfl) ?_
                          refine lv_imul E.1 E.2.1 dX5_copies_199 ?_
                          refine lv_iload_n E.1 E.2.1 dX5_copies_200 rfl (lv_at hl 3 rfl) ?_
                          refine lv_iadd E.1 E.2.1 dX5_copies_201 ?_
                          obtain ⟨hin, hw⟩ := hw
                          refine tw_iald E hK hT 9 rfl hin dX5_copies_202 ?_
                          obtain ⟨hin, hw⟩ := hw
                          refine tw_iast E hK hT hS 9 rfl hin dX5_copies_203 (fun H locs hT hS => ?_)
                          obtain ⟨z90, ez90⟩ : ∃ y, y = uf z27 9 (((nI 10) * i2) + x30).toNatClampNeg (sf z27 9 (((nI 10) * i1) + x30).toNatClampNeg) := ⟨_, rfl⟩
                          rw [← ez90] at hT
                          replace hw := hw z90 ez90
                          refine lv_aload_n E.1 E.2.1 dX5_copies_204 rfl (lv_at hl 0 rfl) ?_
                          refine tw_get E hK hT 10 (Nat.le_of_ble_eq_true rfl) q1820 rfl (v := .ref (ta 10)) rfl dX5_copies_205 ?_
                          refine lv_bipush (v := nI 10) E.1 E.2.1 dX5_copies_208 rfl ?_
                          refine lv_iload_n E.1 E.2.1 dX5_copies_210 rfl (lv_at hl 2 rfl) ?_
                          refine lv_imul E.1 E.2.1 dX5_copies_211 ?_
                          refine lv_iload_n E.1 E.2.1 dX5_copies_212 rfl (lv_at hl 3 rfl) ?_
                          refine lv_iadd E.1 E.2.1 dX5_copies_213 ?_
                          refine lv_aload_n E.1 E.2.1 dX5_copies_214 rfl (lv_at hl 0 rfl) ?_
                          refine tw_get E hK hT 10 (Nat.le_of_ble_eq_true rfl) q1820 rfl (v := .ref (ta 10)) rfl dX5_copies_215 ?_
                          refine lv_bipush (v := nI 10) E.1 E.2.1 dX5_copies_218 rfl ?_
                          refine lv_iload_n E.1 E.2.1 dX5_copies_220 rfl (lv_at hl 1 rfl) ?_
                          refine lv_imul E.1 E.2.1 dX5_copies_221 ?_
                          refine lv_iload_n E.1 E.2.1 dX5_copies_222 rfl (lv_at hl 3 rfl) ?_
                          refine lv_iadd E.1 E.2.1 dX5_copies_223 ?_
                          obtain ⟨hin, hw⟩ := hw
                          refine tw_iald E hK hT 10 rfl hin dX5_copies_224 ?_
                          obtain ⟨hin, hw⟩ := hw
                          refine tw_iast E hK hT hS 10 rfl hin dX5_copies_225 (fun H locs hT hS => ?_)
                          obtain ⟨z91, ez91⟩ : ∃ y, y = uf z90 10 (((nI 10) * i2) + x30).toNatClampNeg (sf z90 10 (((nI 10) * i1) + x30).toNatClampNeg) := ⟨_, rfl⟩
                          rw [← ez91] at hT
                          replace hw := hw z91 ez91
                          refine lv_aload_n E.1 E.2.1 dX5_copies_226 rfl (lv_at hl 0 rfl) ?_
                          refine tw_get E hK hT 11 (Nat.le_of_ble_eq_true rfl) q1821 rfl (v := .ref (ta 11)) rfl dX5_copies_227 ?_
                          refine lv_bipush (v := nI 10) E.1 E.2.1 dX5_copies_230 rfl ?_
                          refine lv_iload_n E.1 E.2.1 dX5_copies_232 rfl (lv_at hl 2 rfl) ?_
                          refine lv_imul E.1 E.2.1 dX5_copies_233 ?_
                          refine lv_iload_n E.1 E.2.1 dX5_copies_234 rfl (lv_at hl 3 rfl) ?_
                          refine lv_iadd E.1 E.2.1 dX5_copies_235 ?_
                          refine lv_aload_n E.1 E.2.1 dX5_copies_236 rfl (lv_at hl 0 rfl) ?_
                          refine tw_get E hK hT 11 (Nat.le_of_ble_eq_true rfl) q1821 rfl (v := .ref (ta 11)) rfl dX5_copies_237 ?_
                          refine lv_bipush (v := nI 10) E.1 E.2.1 dX5_copies_240 rfl ?_
                          refine lv_iload_n E.1 E.2.1 dX5_copies_242 rfl (lv_at hl 1 rfl) ?_
                          refine lv_imul E.1 E.2.1 dX5_copies_243 ?_
                          refine lv_iload_n E.1 E.2.1 dX5_copies_244 rfl (lv_at hl 3 rfl) ?_
                          refine lv_iadd E.1 E.2.1 dX5_copies_245 ?_
                          obtain ⟨hin, hw⟩ := hw
                          refine tw_iald E hK hT 11 rfl hin dX5_copies_246 ?_
                          obtain ⟨hin, hw⟩ := hw
                          refine tw_iast E hK hT hS 11 rfl hin dX5_copies_247 (fun H locs hT hS => ?_)
                          obtain ⟨z92, ez92⟩ : ∃ y, y = uf z91 11 (((nI 10) * i2) + x30).toNatClampNeg (sf z91 11 (((nI 10) * i1) + x30).toNatClampNeg) := ⟨_, rfl⟩
                          rw [← ez92] at hT
                          replace hw := hw z92 ez92
                          refine lv_aload_n E.1 E.2.1 dX5_copies_248 rfl (lv_at hl 0 rfl) ?_
                          refine tw_get E hK hT 12 (Nat.le_of_ble_eq_true rfl) q1822 rfl (v := .ref (ta 12)) rfl dX5_copies_249 ?_
                          refine lv_bipush (v := nI 10) E.1 E.2.1 dX5_copies_252 rfl ?_
                          refine lv_iload_n E.1 E.2.1 dX5_copies_254 rfl (lv_at hl 2 rfl) ?_
                          refine lv_imul E.1 E.2.1 dX5_copies_255 ?_
                          refine lv_iload_n E.1 E.2.1 dX5_copies_256 rfl (lv_at hl 3 rfl) ?_
                          refine lv_iadd E.1 E.2.1 dX5_copies_257 ?_
                          refine lv_aload_n E.1 E.2.1 dX5_copies_258 rfl (lv_at hl 0 rfl) ?_
                          refine tw_get E hK hT 12 (Nat.le_of_ble_eq_true rfl) q1822 rfl (v := .ref (ta 12)) rfl dX5_copies_259 ?_
                          refine lv_bipush (v := nI 10) E.1 E.2.1 dX5_copies_262 rfl ?_
                          refine lv_iload_n E.1 E.2.1 dX5_copies_264 rfl (lv_at hl 1 rfl) ?_
                          refine lv_imul E.1 E.2.1 dX5_copies_265 ?_
                          refine lv_iload_n E.1 E.2.1 dX5_copies_266 rfl (lv_at hl 3 rfl) ?_
                          refine lv_iadd E.1 E.2.1 dX5_copies_267 ?_
                          obtain ⟨hin, hw⟩ := hw
                          refine tw_iald E hK hT 12 rfl hin dX5_copies_268 ?_
                          obtain ⟨hin, hw⟩ := hw
                          refine tw_iast E hK hT hS 12 rfl hin dX5_copies_269 (fun H locs hT hS => ?_)
                          obtain ⟨z93, ez93⟩ : ∃ y, y = uf z92 12 (((nI 10) * i2) + x30).toNatClampNeg (sf z92 12 (((nI 10) * i1) + x30).toNatClampNeg) := ⟨_, rfl⟩
                          rw [← ez93] at hT
                          replace hw := hw z93 ez93
                          refine lv_aload_n E.1 E.2.1 dX5_copies_270 rfl (lv_at hl 0 rfl) ?_
                          refine tw_get E hK hT 13 (Nat.le_of_ble_eq_true rfl) q1823 rfl (v := .ref (ta 13)) rfl dX5_copies_271 ?_
                          refine lv_bipush (v := nI 10) E.1 E.2.1 dX5_copies_274 rfl ?_
                          refine lv_iload_n E.1 E.2.1 dX5_copies_276 rfl (lv_at hl 2 rfl) ?_
                          refine lv_imul E.1 E.2.1 dX5_copies_277 ?_
                          refine lv_iload_n E.1 E.2.1 dX5_copies_278 rfl (lv_at hl 3 rfl) ?_
                          refine lv_iadd E.1 E.2.1 dX5_copies_279 ?_
                          refine lv_aload_n E.1 E.2.1 dX5_copies_280 rfl (lv_at hl 0 rfl) ?_
                          refine tw_get E hK hT 13 (Nat.le_of_ble_eq_true rfl) q1823 rfl (v := .ref (ta 13)) rfl dX5_copies_281 ?_
                          refine lv_bipush (v := nI 10) E.1 E.2.1 dX5_copies_284 rfl ?_
                          refine lv_iload_n E.1 E.2.1 dX5_copies_286 rfl (lv_at hl 1 rfl) ?_
                          refine lv_imul E.1 E.2.1 dX5_copies_287 ?_
                          refine lv_iload_n E.1 E.2.1 dX5_copies_288 rfl (lv_at hl 3 rfl) ?_
                          refine lv_iadd E.1 E.2.1 dX5_copies_289 ?_
                          obtain ⟨hin, hw⟩ := hw
                          refine tw_iald E hK hT 13 rfl hin dX5_copies_290 ?_
                          obtain ⟨hin, hw⟩ := hw
                          refine tw_iast E hK hT hS 13 rfl hin dX5_copies_291 (fun H locs hT hS => ?_)
                          obtain ⟨z94, ez94⟩ : ∃ y, y = uf z93 13 (((nI 10) * i2) + x30).toNatClampNeg (sf z93 13 (((nI 10) * i1) + x30).toNatClampNeg) := ⟨_, rfl⟩
                          rw [← ez94] at hT
                          replace hw := hw z94 ez94
                          refine lv_aload_n E.1 E.2.1 dX5_copies_292 rfl (lv_at hl 0 rfl) ?_
                          refine tw_get E hK hT 14 (Nat.le_of_ble_eq_true rfl) q1824 rfl (v := .ref (ta 14)) rfl dX5_copies_293 ?_
                          refine lv_bipush (v := nI 10) E.1 E.2.1 dX5_copies_296 rfl ?_
                          refine lv_iload_n E.1 E.2.1 dX5_copies_298 rfl (lv_at hl 2 rfl) ?_
                          refine lv_imul E.1 E.2.1 dX5_copies_299 ?_
                          refine lv_iload_n E.1 E.2.1 dX5_copies_300 rfl (lv_at hl 3 rfl) ?_
                          refine lv_iadd E.1 E.2.1 dX5_copies_301 ?_
                          refine lv_aload_n E.1 E.2.1 dX5_copies_302 rfl (lv_at hl 0 rfl) ?_
                          refine tw_get E hK hT 14 (Nat.le_of_ble_eq_true rfl) q1824 rfl (v := .ref (ta 14)) rfl dX5_copies_303 ?_
                          refine lv_bipush (v := nI 10) E.1 E.2.1 dX5_copies_306 rfl ?_
                          refine lv_iload_n E.1 E.2.1 dX5_copies_308 rfl (lv_at hl 1 rfl) ?_
                          refine lv_imul E.1 E.2.1 dX5_copies_309 ?_
                          refine lv_iload_n E.1 E.2.1 dX5_copies_310 rfl (lv_at hl 3 rfl) ?_
                          refine lv_iadd E.1 E.2.1 dX5_copies_311 ?_
                          obtain ⟨hin, hw⟩ := hw
                          refine tw_iald E hK hT 14 rfl hin dX5_copies_312 ?_
                          obtain ⟨hin, hw⟩ := hw
                          refine tw_iast E hK hT hS 14 rfl hin dX5_copies_313 (fun H locs hT hS => ?_)
                          obtain ⟨z95, ez95⟩ : ∃ y, y = uf z94 14 (((nI 10) * i2) + x30).toNatClampNeg (sf z94 14 (((nI 10) * i1) + x30).toNatClampNeg) := ⟨_, rfl⟩
                          rw [← ez95] at hT
                          replace hw := hw z95 ez95
                          refine lv_aload_n E.1 E.2.1 dX5_copies_314 rfl (lv_at hl 0 rfl) ?_
                          refine tw_get E hK hT 15 (Nat.le_of_ble_eq_true rfl) q1825 rfl (v := .ref (ta 15)) rfl dX5_copies_315 ?_
                          refine lv_bipush (v := nI 10) E.1 E.2.1 dX5_copies_318 rfl ?_
                          refine lv_iload_n E.1 E.2.1 dX5_copies_320 rfl (lv_at hl 2 rfl) ?_
                          refine lv_imul E.1 E.2.1 dX5_copies_321 ?_
                          refine lv_iload_n E.1 E.2.1 dX5_copies_322 rfl (lv_at hl 3 rfl) ?_
                          refine lv_iadd E.1 E.2.1 dX5_copies_323 ?_
                          refine lv_aload_n E.1 E.2.1 dX5_copies_324 rfl (lv_at hl 0 rfl) ?_
                          refine tw_get E hK hT 15 (Nat.le_of_ble_eq_true rfl) q1825 rfl (v := .ref (ta 15)) rfl dX5_copies_325 ?_
                          refine lv_bipush (v := nI 10) E.1 E.2.1 dX5_copies_328 rfl ?_
                          refine lv_iload_n E.1 E.2.1 dX5_copies_330 rfl (lv_at hl 1 rfl) ?_
                          refine lv_imul E.1 E.2.1 dX5_copies_331 ?_
                          refine lv_iload_n E.1 E.2.1 dX5_copies_332 rfl (lv_at hl 3 rfl) ?_
                          refine lv_iadd E.1 E.2.1 dX5_copies_333 ?_
                          obtain ⟨hin, hw⟩ := hw
                          refine tw_iald E hK hT 15 rfl hin dX5_copies_334 ?_
                          obtain ⟨hin, hw⟩ := hw
                          refine tw_iast E hK hT hS 15 rfl hin dX5_copies_335 (fun H locs hT hS => ?_)
                          obtain ⟨z96, ez96⟩ : ∃ y, y = uf z95 15 (((nI 10) * i2) + x30).toNatClampNeg (sf z95 15 (((nI 10) * i1) + x30).toNatClampNeg) := ⟨_, rfl⟩
                          rw [← ez96] at hT
                          replace hw := hw z96 ez96
                          refine lv_iinc (k := 3) (v := x30 + nI 1) (lv' := [(3, .int (x30 + nI 1)), (0, .ref (ta 73)), (1, .int (i1)), (2, .int (i2))]) E.1 E.2.1 dX5_copies_336 hl rfl rfl (Nat.le_of_ble_eq_true rfl) rfl (fun ls hl => ?_)
                          refine lv_goto (tgt := 176) E.1 E.2.1 dX5_copies_339 (by decide) ?_
                          obtain ⟨n97, hnn97, hin97⟩ := hw
                          exact ih28 n97 hnn97 _ _ hin97 _ _ _ hT hS (lv_sub hl [1, 2, 3, 0] rfl)
                    exact L29 n31 _ _ hi99 _ _ _ hT hS (lv_sub hl [1, 2, 3, 0] rfl)
                  · replace hw := hw.2 (c24)
                    refine lv_aload_n E.1 E.2.1 dX5_copies_124 rfl (lv_at hl 0 rfl) ?_
                    refine tw_get E hK hT 6 (Nat.le_of_ble_eq_true rfl) q1816 rfl (v := .ref (ta 6)) rfl dX5_copies_125 ?_
                    refine lv_bipush (v := nI 18) E.1 E.2.1 dX5_copies_128 rfl ?_
                    refine lv_iload_n E.1 E.2.1 dX5_copies_130 rfl (lv_at hl 2 rfl) ?_
                    refine lv_imul E.1 E.2.1 dX5_copies_131 ?_
                    refine lv_iload_n E.1 E.2.1 dX5_copies_132 rfl (lv_at hl 3 rfl) ?_
                    refine lv_iadd E.1 E.2.1 dX5_copies_133 ?_
                    refine lv_aload_n E.1 E.2.1 dX5_copies_134 rfl (lv_at hl 0 rfl) ?_
                    refine tw_get E hK hT 6 (Nat.le_of_ble_eq_true rfl) q1816 rfl (v := .ref (ta 6)) rfl dX5_copies_135 ?_
                    refine lv_bipush (v := nI 18) E.1 E.2.1 dX5_copies_138 rfl ?_
                    refine lv_iload_n E.1 E.2.1 dX5_copies_140 rfl (lv_at hl 1 rfl) ?_
                    refine lv_imul E.1 E.2.1 dX5_copies_141 ?_
                    refine lv_iload_n E.1 E.2.1 dX5_copies_142 rfl (lv_at hl 3 rfl) ?_
                    refine lv_iadd E.1 E.2.1 dX5_copies_143 ?_
                    obtain ⟨hin, hw⟩ := hw
                    refine tw_iald E hK hT 6 rfl hin dX5_copies_144 ?_
                    obtain ⟨hin, hw⟩ := hw
                    refine tw_iast E hK hT hS 6 rfl hin dX5_copies_145 (fun H locs hT hS => ?_)
                    obtain ⟨z100, ez100⟩ : ∃ y, y = uf z19 6 (((nI 18) * i2) + x22).toNatClampNeg (sf z19 6 (((nI 18) * i1) + x22).toNatClampNeg) := ⟨_, rfl⟩
                    rw [← ez100] at hT
                    replace hw := hw z100 ez100
                    refine lv_aload_n E.1 E.2.1 dX5_copies_146 rfl (lv_at hl 0 rfl) ?_
                    refine tw_get E hK hT 7 (Nat.le_of_ble_eq_true rfl) q1817 rfl (v := .ref (ta 7)) rfl dX5_copies_147 ?_
                    refine lv_bipush (v := nI 18) E.1 E.2.1 dX5_copies_150 rfl ?_
                    refine lv_iload_n E.1 E.2.1 dX5_copies_152 rfl (lv_at hl 2 rfl) ?_
                    refine lv_imul E.1 E.2.1 dX5_copies_153 ?_
                    refine lv_iload_n E.1 E.2.1 dX5_copies_154 rfl (lv_at hl 3 rfl) ?_
                    refine lv_iadd E.1 E.2.1 dX5_copies_155 ?_
                    refine lv_aload_n E.1 E.2.1 dX5_copies_156 rfl (lv_at hl 0 rfl) ?_
                    refine tw_get E hK hT 7 (Nat.le_of_ble_eq_true rfl) q1817 rfl (v := .ref (ta 7)) rfl dX5_copies_157 ?_
                    refine lv_bipush (v := nI 18) E.1 E.2.1 dX5_copies_160 rfl ?_
                    refine lv_iload_n E.1 E.2.1 dX5_copies_162 rfl (lv_at hl 1 rfl) ?_
                    refine lv_imul E.1 E.2.1 dX5_copies_163 ?_
                    refine lv_iload_n E.1 E.2.1 dX5_copies_164 rfl (lv_at hl 3 rfl) ?_
                    refine lv_iadd E.1 E.2.1 dX5_copies_165 ?_
                    obtain ⟨hin, hw⟩ := hw
                    refine tw_iald E hK hT 7 rfl hin dX5_copies_166 ?_
                    obtain ⟨hin, hw⟩ := hw
                    refine tw_iast E hK hT hS 7 rfl hin dX5_copies_167 (fun H locs hT hS => ?_)
                    obtain ⟨z101, ez101⟩ : ∃ y, y = uf z100 7 (((nI 18) * i2) + x22).toNatClampNeg (sf z100 7 (((nI 18) * i1) + x22).toNatClampNeg) := ⟨_, rfl⟩
                    rw [← ez101] at hT
                    replace hw := hw z101 ez101
                    refine lv_iinc (k := 3) (v := x22 + nI 1) (lv' := [(3, .int (x22 + nI 1)), (0, .ref (ta 73)), (1, .int (i1)), (2, .int (i2))]) E.1 E.2.1 dX5_copies_168 hl rfl rfl (Nat.le_of_ble_eq_true rfl) rfl (fun ls hl => ?_)
                    refine lv_goto (tgt := 118) E.1 E.2.1 dX5_copies_171 (by decide) ?_
                    obtain ⟨n102, hnn102, hin102⟩ := hw
                    exact ih20 n102 hnn102 _ _ hin102 _ _ _ hT hS (lv_sub hl [1, 2, 3, 0] rfl)
              exact L21 n23 _ _ hi104 _ _ _ hT hS (lv_sub hl [1, 2, 3, 0] rfl)
            · replace hw := hw.2 (c16)
              refine lv_aload_n E.1 E.2.1 dX5_copies_44 rfl (lv_at hl 0 rfl) ?_
              refine tw_get E hK hT 4 (Nat.le_of_ble_eq_true rfl) q1814 rfl (v := .ref (ta 4)) rfl dX5_copies_45 ?_
              refine lv_bipush (v := nI 6) E.1 E.2.1 dX5_copies_48 rfl ?_
              refine lv_iload_n E.1 E.2.1 dX5_copies_50 rfl (lv_at hl 2 rfl) ?_
              refine lv_imul E.1 E.2.1 dX5_copies_51 ?_
              refine lv_iload_n E.1 E.2.1 dX5_copies_52 rfl (lv_at hl 3 rfl) ?_
              refine lv_iadd E.1 E.2.1 dX5_copies_53 ?_
              refine lv_aload_n E.1 E.2.1 dX5_copies_54 rfl (lv_at hl 0 rfl) ?_
              refine tw_get E hK hT 4 (Nat.le_of_ble_eq_true rfl) q1814 rfl (v := .ref (ta 4)) rfl dX5_copies_55 ?_
              refine lv_bipush (v := nI 6) E.1 E.2.1 dX5_copies_58 rfl ?_
              refine lv_iload_n E.1 E.2.1 dX5_copies_60 rfl (lv_at hl 1 rfl) ?_
              refine lv_imul E.1 E.2.1 dX5_copies_61 ?_
              refine lv_iload_n E.1 E.2.1 dX5_copies_62 rfl (lv_at hl 3 rfl) ?_
              refine lv_iadd E.1 E.2.1 dX5_copies_63 ?_
              obtain ⟨hin, hw⟩ := hw
              refine tw_lald E hK hT 4 rfl rfl hin dX5_copies_64 ?_
              obtain ⟨hin, hw⟩ := hw
              refine tw_last E hK hT hS 4 rfl rfl hin dX5_copies_65 (fun H locs hT hS => ?_)
              obtain ⟨z105, ez105⟩ : ∃ y, y = ug z11 4 (((nI 6) * i2) + x14).toNatClampNeg (sg z11 4 (((nI 6) * i1) + x14).toNatClampNeg) := ⟨_, rfl⟩
              rw [← ez105] at hT
              replace hw := hw z105 ez105
              refine lv_aload_n E.1 E.2.1 dX5_copies_66 rfl (lv_at hl 0 rfl) ?_
              refine tw_get E hK hT 5 (Nat.le_of_ble_eq_true rfl) q1815 rfl (v := .ref (ta 5)) rfl dX5_copies_67 ?_
              refine lv_bipush (v := nI 6) E.1 E.2.1 dX5_copies_70 rfl ?_
              refine lv_iload_n E.1 E.2.1 dX5_copies_72 rfl (lv_at hl 2 rfl) ?_
              refine lv_imul E.1 E.2.1 dX5_copies_73 ?_
              refine lv_iload_n E.1 E.2.1 dX5_copies_74 rfl (lv_at hl 3 rfl) ?_
              refine lv_iadd E.1 E.2.1 dX5_copies_75 ?_
              refine lv_aload_n E.1 E.2.1 dX5_copies_76 rfl (lv_at hl 0 rfl) ?_
              refine tw_get E hK hT 5 (Nat.le_of_ble_eq_true rfl) q1815 rfl (v := .ref (ta 5)) rfl dX5_copies_77 ?_
              refine lv_bipush (v := nI 6) E.1 E.2.1 dX5_copies_80 rfl ?_
              refine lv_iload_n E.1 E.2.1 dX5_copies_82 rfl (lv_at hl 1 rfl) ?_
              refine lv_imul E.1 E.2.1 dX5_copies_83 ?_
              refine lv_iload_n E.1 E.2.1 dX5_copies_84 rfl (lv_at hl 3 rfl) ?_
              refine lv_iadd E.1 E.2.1 dX5_copies_85 ?_
              obtain ⟨hin, hw⟩ := hw
              refine tw_iald E hK hT 5 rfl hin dX5_copies_86 ?_
              obtain ⟨hin, hw⟩ := hw
              refine tw_iast E hK hT hS 5 rfl hin dX5_copies_87 (fun H locs hT hS => ?_)
              obtain ⟨z106, ez106⟩ : ∃ y, y = uf z105 5 (((nI 6) * i2) + x14).toNatClampNeg (sf z105 5 (((nI 6) * i1) + x14).toNatClampNeg) := ⟨_, rfl⟩
              rw [← ez106] at hT
              replace hw := hw z106 ez106
              refine lv_aload_n E.1 E.2.1 dX5_copies_88 rfl (lv_at hl 0 rfl) ?_
              refine tw_get E hK hT 8 (Nat.le_of_ble_eq_true rfl) q1818 rfl (v := .ref (ta 8)) rfl dX5_copies_89 ?_
              refine lv_bipush (v := nI 6) E.1 E.2.1 dX5_copies_92 rfl ?_
              refine lv_iload_n E.1 E.2.1 dX5_copies_94 rfl (lv_at hl 2 rfl) ?_
              refine lv_imul E.1 E.2.1 dX5_copies_95 ?_
              refine lv_iload_n E.1 E.2.1 dX5_copies_96 rfl (lv_at hl 3 rfl) ?_
              refine lv_iadd E.1 E.2.1 dX5_copies_97 ?_
              refine lv_aload_n E.1 E.2.1 dX5_copies_98 rfl (lv_at hl 0 rfl) ?_
              refine tw_get E hK hT 8 (Nat.le_of_ble_eq_true rfl) q1818 rfl (v := .ref (ta 8)) rfl dX5_copies_99 ?_
              refine lv_bipush (v := nI 6) E.1 E.2.1 dX5_copies_102 rfl ?_
              refine lv_iload_n E.1 E.2.1 dX5_copies_104 rfl (lv_at hl 1 rfl) ?_
              refine lv_imul E.1 E.2.1 dX5_copies_105 ?_
              refine lv_iload_n E.1 E.2.1 dX5_copies_106 rfl (lv_at hl 3 rfl) ?_
              refine lv_iadd E.1 E.2.1 dX5_copies_107 ?_
              obtain ⟨hin, hw⟩ := hw
              refine tw_iald E hK hT 8 rfl hin dX5_copies_108 ?_
              obtain ⟨hin, hw⟩ := hw
              refine tw_iast E hK hT hS 8 rfl hin dX5_copies_109 (fun H locs hT hS => ?_)
              obtain ⟨z107, ez107⟩ : ∃ y, y = uf z106 8 (((nI 6) * i2) + x14).toNatClampNeg (sf z106 8 (((nI 6) * i1) + x14).toNatClampNeg) := ⟨_, rfl⟩
              rw [← ez107] at hT
              replace hw := hw z107 ez107
              refine lv_iinc (k := 3) (v := x14 + nI 1) (lv' := [(3, .int (x14 + nI 1)), (0, .ref (ta 73)), (1, .int (i1)), (2, .int (i2))]) E.1 E.2.1 dX5_copies_110 hl rfl rfl (Nat.le_of_ble_eq_true rfl) rfl (fun ls hl => ?_)
              refine lv_goto (tgt := 38) E.1 E.2.1 dX5_copies_113 (by decide) ?_
              obtain ⟨n108, hnn108, hin108⟩ := hw
              exact ih12 n108 hnn108 _ _ hin108 _ _ _ hT hS (lv_sub hl [1, 2, 3, 0] rfl)
        exact L13 n15 _ _ hi110 _ _ _ hT hS (lv_sub hl [1, 2, 3, 0] rfl)
      · replace hw := hw.2 (c8)
        refine lv_aload_n E.1 E.2.1 dX5_copies_8 rfl (lv_at hl 0 rfl) ?_
        refine tw_get E hK hT 3 (Nat.le_of_ble_eq_true rfl) q1813 rfl (v := .ref (ta 3)) rfl dX5_copies_9 ?_
        refine lv_bipush (v := nI 7) E.1 E.2.1 dX5_copies_12 rfl ?_
        refine lv_iload_n E.1 E.2.1 dX5_copies_14 rfl (lv_at hl 2 rfl) ?_
        refine lv_imul E.1 E.2.1 dX5_copies_15 ?_
        refine lv_iload_n E.1 E.2.1 dX5_copies_16 rfl (lv_at hl 3 rfl) ?_
        refine lv_iadd E.1 E.2.1 dX5_copies_17 ?_
        refine lv_aload_n E.1 E.2.1 dX5_copies_18 rfl (lv_at hl 0 rfl) ?_
        refine tw_get E hK hT 3 (Nat.le_of_ble_eq_true rfl) q1813 rfl (v := .ref (ta 3)) rfl dX5_copies_19 ?_
        refine lv_bipush (v := nI 7) E.1 E.2.1 dX5_copies_22 rfl ?_
        refine lv_iload_n E.1 E.2.1 dX5_copies_24 rfl (lv_at hl 1 rfl) ?_
        refine lv_imul E.1 E.2.1 dX5_copies_25 ?_
        refine lv_iload_n E.1 E.2.1 dX5_copies_26 rfl (lv_at hl 3 rfl) ?_
        refine lv_iadd E.1 E.2.1 dX5_copies_27 ?_
        obtain ⟨hin, hw⟩ := hw
        refine tw_iald E hK hT 3 rfl hin dX5_copies_28 ?_
        obtain ⟨hin, hw⟩ := hw
        refine tw_iast E hK hT hS 3 rfl hin dX5_copies_29 (fun H locs hT hS => ?_)
        obtain ⟨z111, ez111⟩ : ∃ y, y = uf z3 3 (((nI 7) * i2) + x6).toNatClampNeg (sf z3 3 (((nI 7) * i1) + x6).toNatClampNeg) := ⟨_, rfl⟩
        rw [← ez111] at hT
        replace hw := hw z111 ez111
        refine lv_iinc (k := 3) (v := x6 + nI 1) (lv' := [(3, .int (x6 + nI 1)), (0, .ref (ta 73)), (1, .int (i1)), (2, .int (i2))]) E.1 E.2.1 dX5_copies_30 hl rfl rfl (Nat.le_of_ble_eq_true rfl) rfl (fun ls hl => ?_)
        refine lv_goto (tgt := 2) E.1 E.2.1 dX5_copies_33 (by decide) ?_
        obtain ⟨n112, hnn112, hin112⟩ := hw
        exact ih4 n112 hnn112 _ _ hin112 _ _ _ hT hS (lv_sub hl [1, 2, 3, 0] rfl)
  exact L5 n7 _ _ hi114 _ _ _ hT hS (lv_sub hl [1, 2, 3, 0] rfl)
/-- keep()I -/
def wp_keep (post : Int32 → TS → Prop) (z0 : TS) : Prop := ∀ z1, z1 = ux z0 2 (nI 0) → wp_copies (fun z2 => ∀ z3, z3 = ux z2 32 (nI 1) → wp_classes (fun r5 z4 => post r5 z4) z3 (sx z3 29)) z1 (sx z1 29) (sx z1 30)
theorem hd_keep : yX5_keep.cls = RX5 ∧ yX5_keep.cls ≠ "java/lang/invoke/MethodHandle" ∧ yX5_keep.cls ≠ "java/lang/invoke/VarHandle" ∧ (parseMethodDescriptor yX5_keep.desc).map (fun d => d.parameters.length) = some 0 := by decide +kernel
set_option maxHeartbeats 4000000 in
theorem met_keep (l : Launch) (G : GP) (ta : Nat → Nat) (d : Nat) {post : Int32 → TS → Prop} {z0 : TS} (hw : wp_keep post z0) : Met l yX5_keep (ws_ yX5_keep cX5_keep 1 (some .int)) (rmd (d + 1) 0 0) (tPc G ta z0 [.ref (ta 73)]) (tQi G ta post) 0 0 (TA ta) := by
  unfold wp_keep at hw
  refine tw_met (by decide) rfl (Nat.le_of_ble_eq_true rfl) ?_
  intro p e s m args below meth c ls E hr hlocks hK hT hS hl
  replace hl : lv_has ls 1 [(0, .ref (ta 73))] := hl
  refine lv_aload_n E.1 E.2.1 dX5_keep_0 rfl (lv_at hl 0 rfl) ?_
  refine lv_iconst (v := nI 0) E.1 E.2.1 dX5_keep_1 rfl ?_
  refine tw_puti E hK hT hS 2 (Nat.le_of_ble_eq_true rfl) q1812 rfl rfl rfl rfl dX5_keep_2 (fun H locs hT hS => ?_)
  obtain ⟨z1, ez1⟩ : ∃ y, y = ux z0 2 (nI 0) := ⟨_, rfl⟩
  rw [← ez1] at hT
  replace hw := hw z1 ez1
  refine lv_aload_n E.1 E.2.1 dX5_keep_5 rfl (lv_at hl 0 rfl) ?_
  refine lv_aload_n E.1 E.2.1 dX5_keep_6 rfl (lv_at hl 0 rfl) ?_
  refine tw_get E hK hT 29 (Nat.le_of_ble_eq_true rfl) q1839 rfl (v := .int (sx z1 29)) rfl dX5_keep_7 ?_
  refine lv_aload_n E.1 E.2.1 dX5_keep_10 rfl (lv_at hl 0 rfl) ?_
  refine tw_get E hK hT 30 (Nat.le_of_ble_eq_true rfl) q1840 rfl (v := .int (sx z1 30)) rfl dX5_keep_11 ?_
  refine tw_callVv E hK hT hS (As := [.int (sx z1 29), .int (sx z1 30)]) (rest := []) (met_copies l G ta (d) hw) (cwV 2 E.2.2.2.2 (lw_V q2427 q2429 qs118 q128 q2430) rfl rfl rfl hd_copies (rm_ok (by omega) (by decide))) rfl rfl hl.1 (Nat.le_of_ble_eq_true rfl) dX5_keep_14 (fun z2 H locs hw hT hS => ?_)
  refine lv_aload_n E.1 E.2.1 dX5_keep_17 rfl (lv_at hl 0 rfl) ?_
  refine lv_iconst (v := nI 1) E.1 E.2.1 dX5_keep_18 rfl ?_
  refine tw_putz E hK hT hS 32 (Nat.le_of_ble_eq_true rfl) q1842 rfl rfl rfl rfl rfl rfl dX5_keep_19 (fun H locs hT hS => ?_)
  obtain ⟨z3, ez3⟩ : ∃ y, y = ux z2 32 (nI 1) := ⟨_, rfl⟩
  rw [← ez3] at hT
  replace hw := hw z3 ez3
  refine lv_aload_n E.1 E.2.1 dX5_keep_22 rfl (lv_at hl 0 rfl) ?_
  refine lv_aload_n E.1 E.2.1 dX5_keep_23 rfl (lv_at hl 0 rfl) ?_
  refine tw_get E hK hT 29 (Nat.le_of_ble_eq_true rfl) q1839 rfl (v := .int (sx z3 29)) rfl dX5_keep_24 ?_
  refine tw_callVi E hK hT hS (As := [.int (sx z3 29)]) (rest := []) (met_classes l G ta (d) hw) (cwV 1 E.2.2.2.2 (lw_V q2219 q2221 qs87 q128 q2222) rfl rfl rfl hd_classes (rm_ok (by omega) (by decide))) rfl rfl hl.1 (Nat.le_of_ble_eq_true rfl) dX5_keep_27 (fun r5 z4 H locs hw hT hS => ?_)
  exact tw_ireti E hr hlocks hT hS hw dX5_keep_30
/-- isMoved(I)Z -/
def wp_isMoved (post : Bool → TS → Prop) (z0 : TS) (i1 : Int32) : Prop := ∃ J1 : TS → Int32 → Int32 → Prop, (∀ (z3 : TS) (x4 : Int32) (x5 : Int32), J1 z3 x4 x5 → (0 ≤ x4 → post true z3) ∧ (¬ 0 ≤ x4 → (x5 < 0 → post false z3) ∧ (¬ x5 < 0 → post true z3))) ∧ (wp_classFor (fun r9 z8 => wp_classFor (fun r11 z10 => (r9 < 0 → J1 z10 r9 r11) ∧ (¬ r9 < 0 → (0 ≤ r11 → vp_in (((nI 16) * (sx z10 29)) + r9) 48 ∧ vp_in (((nI 16) * (sx z10 30)) + r11) 48 ∧ ((sg z10 18 (((nI 16) * (sx z10 29)) + r9).toNatClampNeg) = (sg z10 18 (((nI 16) * (sx z10 30)) + r11).toNatClampNeg) → post false z10) ∧ (¬ (sg z10 18 (((nI 16) * (sx z10 29)) + r9).toNatClampNeg) = (sg z10 18 (((nI 16) * (sx z10 30)) + r11).toNatClampNeg) → post true z10)) ∧ (¬ 0 ≤ r11 → J1 z10 r9 r11))) z8 (sx z8 30) i1) z0 (sx z0 29) i1)
theorem hd_isMoved : yX5_isMoved.cls = RX5 ∧ yX5_isMoved.cls ≠ "java/lang/invoke/MethodHandle" ∧ yX5_isMoved.cls ≠ "java/lang/invoke/VarHandle" ∧ (parseMethodDescriptor yX5_isMoved.desc).map (fun d => d.parameters.length) = some 1 := by decide +kernel
set_option maxHeartbeats 4000000 in
theorem met_isMoved (l : Launch) (G : GP) (ta : Nat → Nat) (d : Nat) {post : Bool → TS → Prop} {z0 : TS} {i1 : Int32} (hw : wp_isMoved post z0 i1) : Met l yX5_isMoved (ws_ yX5_isMoved cX5_isMoved 4 (some .boolean)) (rmd (d + 405) 0 0) (tPc G ta z0 [.ref (ta 73), .int (i1)]) (tQz G ta post) 0 0 (TA ta) := by
  unfold wp_isMoved at hw
  refine tw_met (by decide) rfl (Nat.le_of_ble_eq_true rfl) ?_
  intro p e s m args below meth c ls E hr hlocks hK hT hS hl
  replace hl : lv_has ls 4 [(0, .ref (ta 73)), (1, .int (i1))] := hl
  obtain ⟨J1, hj15, hw⟩ := hw
  have jh2 : ∀ (z3 : TS) (x4 : Int32) (x5 : Int32), J1 z3 x4 x5 → ∀ (H : Heap) (locs : List Loc) (ls : Array Slot), TW G ta z3 H → va_S (TA ta) s.heap H locs → lv_has ls 4 [(2, .int (x4)), (3, .int (x5))] → W p l e (rmd (d + 405) 0 0) s m args below meth c H locs 0 0 (MQ below (tQz G ta post) args s 0 0 (TA ta)) (F0 m 28 ls []) := by
    intro z3 x4 x5 hw H locs ls hT hS hl
    replace hw := hj15 z3 x4 x5 hw
    refine lv_iload_n E.1 E.2.1 dX5_isMoved_28 rfl (lv_at hl 0 rfl) ?_
    refine lv_if_ge (tgt := 36) E.1 E.2.1 dX5_isMoved_29 (by decide) (fun c6 => ?_) (fun c6 => ?_)
    · replace hw := hw.1 (c6)
      refine lv_iconst (v := nI 1) E.1 E.2.1 dX5_isMoved_36 rfl ?_
      refine lv_goto (tgt := 41) E.1 E.2.1 dX5_isMoved_37 (by decide) ?_
      exact tw_iretz (b := true) E hr hlocks hT hS rfl hw dX5_isMoved_41
    · replace hw := hw.2 (c6)
      refine lv_iload_n E.1 E.2.1 dX5_isMoved_32 rfl (lv_at hl 1 rfl) ?_
      refine lv_if_lt (tgt := 40) E.1 E.2.1 dX5_isMoved_33 (by decide) (fun c7 => ?_) (fun c7 => ?_)
      · replace hw := hw.1 (c7)
        refine lv_iconst (v := nI 0) E.1 E.2.1 dX5_isMoved_40 rfl ?_
        exact tw_iretz (b := false) E hr hlocks hT hS rfl hw dX5_isMoved_41
      · replace hw := hw.2 (c7)
        refine lv_iconst (v := nI 1) E.1 E.2.1 dX5_isMoved_36 rfl ?_
        refine lv_goto (tgt := 41) E.1 E.2.1 dX5_isMoved_37 (by decide) ?_
        exact tw_iretz (b := true) E hr hlocks hT hS rfl hw dX5_isMoved_41
  refine lv_aload_n E.1 E.2.1 dX5_isMoved_0 rfl (lv_at hl 0 rfl) ?_
  refine lv_aload_n E.1 E.2.1 dX5_isMoved_1 rfl (lv_at hl 0 rfl) ?_
  refine tw_get E hK hT 29 (Nat.le_of_ble_eq_true rfl) q1839 rfl (v := .int (sx z0 29)) rfl dX5_isMoved_2 ?_
  refine lv_iload_n E.1 E.2.1 dX5_isMoved_5 rfl (lv_at hl 1 rfl) ?_
  refine tw_callVi E hK hT hS (As := [.int (sx z0 29), .int (i1)]) (rest := []) (met_classFor l G ta (d) hw) (cwV 2 E.2.2.2.2 (lw_V q2359 q2361 qs112 q128 q2362) rfl rfl rfl hd_classFor (rm_ok (by omega) (by decide))) rfl rfl hl.1 (Nat.le_of_ble_eq_true rfl) dX5_isMoved_6 (fun r9 z8 H locs hw hT hS => ?_)
  refine lv_istore_n (lv' := [(2, .int (r9)), (0, .ref (ta 73)), (1, .int (i1))]) E.1 E.2.1 dX5_isMoved_9 rfl hl (Nat.le_of_ble_eq_true rfl) rfl (fun ls hl => ?_)
  refine lv_aload_n E.1 E.2.1 dX5_isMoved_10 rfl (lv_at hl 1 rfl) ?_
  refine lv_aload_n E.1 E.2.1 dX5_isMoved_11 rfl (lv_at hl 1 rfl) ?_
  refine tw_get E hK hT 30 (Nat.le_of_ble_eq_true rfl) q1840 rfl (v := .int (sx z8 30)) rfl dX5_isMoved_12 ?_
  refine lv_iload_n E.1 E.2.1 dX5_isMoved_15 rfl (lv_at hl 2 rfl) ?_
  refine tw_callVi E hK hT hS (As := [.int (sx z8 30), .int (i1)]) (rest := []) (met_classFor l G ta (d) hw) (cwV 2 E.2.2.2.2 (lw_V q2359 q2361 qs112 q128 q2362) rfl rfl rfl hd_classFor (rm_ok (by omega) (by decide))) rfl rfl hl.1 (Nat.le_of_ble_eq_true rfl) dX5_isMoved_16 (fun r11 z10 H locs hw hT hS => ?_)
  refine lv_istore_n (lv' := [(3, .int (r11)), (2, .int (r9)), (0, .ref (ta 73)), (1, .int (i1))]) E.1 E.2.1 dX5_isMoved_19 rfl hl (Nat.le_of_ble_eq_true rfl) rfl (fun ls hl => ?_)
  refine lv_iload_n E.1 E.2.1 dX5_isMoved_20 rfl (lv_at hl 1 rfl) ?_
  refine lv_if_lt (tgt := 28) E.1 E.2.1 dX5_isMoved_21 (by decide) (fun c12 => ?_) (fun c12 => ?_)
  · replace hw := hw.1 (c12)
    exact jh2 _ _ _ hw _ _ _ hT hS (lv_sub hl [1, 0] rfl)
  · replace hw := hw.2 (c12)
    refine lv_iload_n E.1 E.2.1 dX5_isMoved_24 rfl (lv_at hl 0 rfl) ?_
    refine lv_if_ge (tgt := 42) E.1 E.2.1 dX5_isMoved_25 (by decide) (fun c13 => ?_) (fun c13 => ?_)
    · replace hw := hw.1 (c13)
      refine lv_aload_n E.1 E.2.1 dX5_isMoved_42 rfl (lv_at hl 2 rfl) ?_
      refine tw_get E hK hT 18 (Nat.le_of_ble_eq_true rfl) q1828 rfl (v := .ref (ta 18)) rfl dX5_isMoved_43 ?_
      refine lv_bipush (v := nI 16) E.1 E.2.1 dX5_isMoved_46 rfl ?_
      refine lv_aload_n E.1 E.2.1 dX5_isMoved_48 rfl (lv_at hl 2 rfl) ?_
      refine tw_get E hK hT 29 (Nat.le_of_ble_eq_true rfl) q1839 rfl (v := .int (sx z10 29)) rfl dX5_isMoved_49 ?_
      refine lv_imul E.1 E.2.1 dX5_isMoved_52 ?_
      refine lv_iload_n E.1 E.2.1 dX5_isMoved_53 rfl (lv_at hl 1 rfl) ?_
      refine lv_iadd E.1 E.2.1 dX5_isMoved_54 ?_
      obtain ⟨hin, hw⟩ := hw
      refine tw_lald E hK hT 18 rfl rfl hin dX5_isMoved_55 ?_
      refine lv_aload_n E.1 E.2.1 dX5_isMoved_56 rfl (lv_at hl 2 rfl) ?_
      refine tw_get E hK hT 18 (Nat.le_of_ble_eq_true rfl) q1828 rfl (v := .ref (ta 18)) rfl dX5_isMoved_57 ?_
      refine lv_bipush (v := nI 16) E.1 E.2.1 dX5_isMoved_60 rfl ?_
      refine lv_aload_n E.1 E.2.1 dX5_isMoved_62 rfl (lv_at hl 2 rfl) ?_
      refine tw_get E hK hT 30 (Nat.le_of_ble_eq_true rfl) q1840 rfl (v := .int (sx z10 30)) rfl dX5_isMoved_63 ?_
      refine lv_imul E.1 E.2.1 dX5_isMoved_66 ?_
      refine lv_iload_n E.1 E.2.1 dX5_isMoved_67 rfl (lv_at hl 0 rfl) ?_
      refine lv_iadd E.1 E.2.1 dX5_isMoved_68 ?_
      obtain ⟨hin, hw⟩ := hw
      refine tw_lald E hK hT 18 rfl rfl hin dX5_isMoved_69 ?_
      refine W.lcmp E.1 E.2.1 dX5_isMoved_70 ?_
      refine lv_if_eq (tgt := 78) E.1 E.2.1 dX5_isMoved_71 (by decide) (fun c14 => ?_) (fun c14 => ?_)
      · replace hw := hw.1 ((lg_cmp_eq _ _).mp c14)
        refine lv_iconst (v := nI 0) E.1 E.2.1 dX5_isMoved_78 rfl ?_
        exact tw_iretz (b := false) E hr hlocks hT hS rfl hw dX5_isMoved_79
      · replace hw := hw.2 (fun h => c14 ((lg_cmp_eq _ _).mpr h))
        refine lv_iconst (v := nI 1) E.1 E.2.1 dX5_isMoved_74 rfl ?_
        refine lv_goto (tgt := 79) E.1 E.2.1 dX5_isMoved_75 (by decide) ?_
        exact tw_iretz (b := true) E hr hlocks hT hS rfl hw dX5_isMoved_79
    · replace hw := hw.2 (c13)
      exact jh2 _ _ _ hw _ _ _ hT hS (lv_sub hl [1, 0] rfl)
/-- compare(I)I -/
def wp_compare (post : Int32 → TS → Prop) (z0 : TS) (i1 : Int32) : Prop := ∀ z1, z1 = ux z0 2 (nI 0) → ((sx z1 32) = 0 → post ((-100000)) z1) ∧ (¬ (sx z1 32) = 0 → wp_within (fun b4 z3 => (b4 = true → ∃ I6 : Nat → TS → Int32 → Int32 → Int32 → Int32 → Prop, (∃ n15, I6 n15 z3 (nI 0) ((-1)) (nI 0) (nI 0)) ∧ ∀ (n7 : Nat) (z8 : TS) (x11 : Int32) (x12 : Int32) (x13 : Int32) (x14 : Int32), I6 n7 z8 x11 x12 x13 x14 → ((sx z8 34) ≤ x14 → (¬ i1 = 0 → (¬ i1 = (nI 1) → post x12 z8) ∧ (i1 = (nI 1) → post x13 z8)) ∧ (i1 = 0 → post x11 z8)) ∧ (¬ (sx z8 34) ≤ x14 → wp_weightFor (fun r20 z19 => wp_weightFor (fun r22 z21 => ∀ x23, x23 = x13 + (r20 - r22) → wp_isMoved (fun b25 z24 => (b25 = true → (0 ≤ x12 → ∃ n28, n28 < n7 ∧ I6 n28 z24 (x11 + nI 1) x12 x23 (x14 + nI 1)) ∧ (¬ 0 ≤ x12 → ∃ n29, n29 < n7 ∧ I6 n29 z24 (x11 + nI 1) x14 x23 (x14 + nI 1))) ∧ (b25 = false → ∃ n30, n30 < n7 ∧ I6 n30 z24 x11 x12 x23 (x14 + nI 1))) z21 x14) z19 (sx z19 29) x14) z8 (sx z8 30) x14)) ∧ (b4 = false → post ((-100000)) z3)) z1 i1 (nI 0) (nI 2))
theorem hd_compare : yX5_compare.cls = RX5 ∧ yX5_compare.cls ≠ "java/lang/invoke/MethodHandle" ∧ yX5_compare.cls ≠ "java/lang/invoke/VarHandle" ∧ (parseMethodDescriptor yX5_compare.desc).map (fun d => d.parameters.length) = some 1 := by decide +kernel
set_option maxHeartbeats 4000000 in
theorem met_compare (l : Launch) (G : GP) (ta : Nat → Nat) (d : Nat) {post : Int32 → TS → Prop} {z0 : TS} {i1 : Int32} (hw : wp_compare post z0 i1) : Met l yX5_compare (ws_ yX5_compare cX5_compare 6 (some .int)) (rmd (d + 406) 0 0) (tPc G ta z0 [.ref (ta 73), .int (i1)]) (tQi G ta post) 0 0 (TA ta) := by
  unfold wp_compare at hw
  refine tw_met (by decide) rfl (Nat.le_of_ble_eq_true rfl) ?_
  intro p e s m args below meth c ls E hr hlocks hK hT hS hl
  replace hl : lv_has ls 6 [(0, .ref (ta 73)), (1, .int (i1))] := hl
  refine lv_aload_n E.1 E.2.1 dX5_compare_0 rfl (lv_at hl 0 rfl) ?_
  refine lv_iconst (v := nI 0) E.1 E.2.1 dX5_compare_1 rfl ?_
  refine tw_puti E hK hT hS 2 (Nat.le_of_ble_eq_true rfl) q1812 rfl rfl rfl rfl dX5_compare_2 (fun H locs hT hS => ?_)
  obtain ⟨z1, ez1⟩ : ∃ y, y = ux z0 2 (nI 0) := ⟨_, rfl⟩
  rw [← ez1] at hT
  replace hw := hw z1 ez1
  refine lv_aload_n E.1 E.2.1 dX5_compare_5 rfl (lv_at hl 0 rfl) ?_
  refine tw_get E hK hT 32 (Nat.le_of_ble_eq_true rfl) q1842 rfl (v := .int (sx z1 32)) rfl dX5_compare_6 ?_
  refine lv_if_eq (tgt := 21) E.1 E.2.1 dX5_compare_9 (by decide) (fun c2 => ?_) (fun c2 => ?_)
  · replace hw := hw.1 (c2)
    refine lv_ldcw (v := (-100000)) E.1 E.2.1 E.2.2.2.1 (E.2.2.2.2 _ q2435) dX5_compare_21 ?_
    exact tw_ireti E hr hlocks hT hS hw dX5_compare_24
  · replace hw := hw.2 (c2)
    refine lv_iload_n E.1 E.2.1 dX5_compare_12 rfl (lv_at hl 1 rfl) ?_
    refine lv_iconst (v := nI 0) E.1 E.2.1 dX5_compare_13 rfl ?_
    refine lv_iconst (v := nI 2) E.1 E.2.1 dX5_compare_14 rfl ?_
    refine tw_callSz E hK hT hS (As := [.int (i1), .int (nI 0), .int (nI 2)]) (rest := []) (met_within l G ta (d + 405) hw) (va_cwS 3 E.2.2.2.2 (lw_S q2048 q2049 q128 q2050) rfl rfl rfl hs_within (rm_ok (by omega) (by decide))) rfl rfl hl.1 (Nat.le_of_ble_eq_true rfl) dX5_compare_15 (fun b4 z3 H locs hw hT hS => ?_)
    refine lv_if_ne (tgt := 25) E.1 E.2.1 dX5_compare_18 (by decide) (fun c5 => ?_) (fun c5 => ?_)
    · replace hw := hw.1 (bi_n c5)
      refine lv_iconst (v := nI 0) E.1 E.2.1 dX5_compare_25 rfl ?_
      refine lv_istore_n (lv' := [(2, .int (nI 0)), (0, .ref (ta 73)), (1, .int (i1))]) E.1 E.2.1 dX5_compare_26 rfl hl (Nat.le_of_ble_eq_true rfl) rfl (fun ls hl => ?_)
      refine lv_iconst (v := (-1)) E.1 E.2.1 dX5_compare_27 rfl ?_
      refine lv_istore_n (lv' := [(3, .int ((-1))), (2, .int (nI 0)), (0, .ref (ta 73)), (1, .int (i1))]) E.1 E.2.1 dX5_compare_28 rfl hl (Nat.le_of_ble_eq_true rfl) rfl (fun ls hl => ?_)
      refine lv_iconst (v := nI 0) E.1 E.2.1 dX5_compare_29 rfl ?_
      refine lv_istore (lv' := [(4, .int (nI 0)), (3, .int ((-1))), (2, .int (nI 0)), (0, .ref (ta 73)), (1, .int (i1))]) E.1 E.2.1 dX5_compare_30 hl (Nat.le_of_ble_eq_true rfl) rfl (fun ls hl => ?_)
      refine lv_iconst (v := nI 0) E.1 E.2.1 dX5_compare_32 rfl ?_
      refine lv_istore (lv' := [(5, .int (nI 0)), (4, .int (nI 0)), (3, .int ((-1))), (2, .int (nI 0)), (0, .ref (ta 73)), (1, .int (i1))]) E.1 E.2.1 dX5_compare_33 hl (Nat.le_of_ble_eq_true rfl) rfl (fun ls hl => ?_)
      obtain ⟨I6, ⟨n15, hi32⟩, hb31⟩ := hw
      have L10 : ∀ (n7 : Nat) (z8 : TS) (x11 : Int32) (x12 : Int32) (x13 : Int32) (x14 : Int32), I6 n7 z8 x11 x12 x13 x14 → ∀ (H : Heap) (locs : List Loc) (ls : Array Slot), TW G ta z8 H → va_S (TA ta) s.heap H locs → lv_has ls 6 [(0, .ref (ta 73)), (1, .int (i1)), (2, .int (x11)), (3, .int (x12)), (4, .int (x13)), (5, .int (x14))] → W p l e (rmd (d + 406) 0 0) s m args below meth c H locs 0 0 (MQ below (tQi G ta post) args s 0 0 (TA ta)) (F0 m 35 ls []) := by
        intro n7
        induction n7 using Nat.strongRecOn with
        | _ n7 ih9 =>
          intro z8 x11 x12 x13 x14 hw H locs ls hT hS hl
          replace hw := hb31 n7 z8 x11 x12 x13 x14 hw
          refine lv_iload E.1 E.2.1 dX5_compare_35 (lv_at hl 5 rfl) ?_
          refine lv_aload_n E.1 E.2.1 dX5_compare_37 rfl (lv_at hl 0 rfl) ?_
          refine tw_get E hK hT 34 (Nat.le_of_ble_eq_true rfl) q1844 rfl (v := .int (sx z8 34)) rfl dX5_compare_38 ?_
          refine lv_icmp_ge (tgt := 98) E.1 E.2.1 dX5_compare_41 (by decide) (fun c16 => ?_) (fun c16 => ?_)
          · replace hw := hw.1 (c16)
            refine lv_iload_n E.1 E.2.1 dX5_compare_98 rfl (lv_at hl 1 rfl) ?_
            refine lv_if_ne (tgt := 106) E.1 E.2.1 dX5_compare_99 (by decide) (fun c17 => ?_) (fun c17 => ?_)
            · replace hw := hw.1 (c17)
              refine lv_iload_n E.1 E.2.1 dX5_compare_106 rfl (lv_at hl 1 rfl) ?_
              refine lv_iconst (v := nI 1) E.1 E.2.1 dX5_compare_107 rfl ?_
              refine lv_icmp_ne (tgt := 116) E.1 E.2.1 dX5_compare_108 (by decide) (fun c18 => ?_) (fun c18 => ?_)
              · replace hw := hw.1 (c18)
                refine lv_iload_n E.1 E.2.1 dX5_compare_116 rfl (lv_at hl 3 rfl) ?_
                exact tw_ireti E hr hlocks hT hS hw dX5_compare_117
              · replace hw := hw.2 (c18)
                refine lv_iload E.1 E.2.1 dX5_compare_111 (lv_at hl 4 rfl) ?_
                refine lv_goto (tgt := 117) E.1 E.2.1 dX5_compare_113 (by decide) ?_
                exact tw_ireti E hr hlocks hT hS hw dX5_compare_117
            · replace hw := hw.2 (c17)
              refine lv_iload_n E.1 E.2.1 dX5_compare_102 rfl (lv_at hl 2 rfl) ?_
              refine lv_goto (tgt := 117) E.1 E.2.1 dX5_compare_103 (by decide) ?_
              exact tw_ireti E hr hlocks hT hS hw dX5_compare_117
          · replace hw := hw.2 (c16)
            refine lv_iload E.1 E.2.1 dX5_compare_44 (lv_at hl 4 rfl) ?_
            refine lv_aload_n E.1 E.2.1 dX5_compare_46 rfl (lv_at hl 0 rfl) ?_
            refine lv_aload_n E.1 E.2.1 dX5_compare_47 rfl (lv_at hl 0 rfl) ?_
            refine tw_get E hK hT 30 (Nat.le_of_ble_eq_true rfl) q1840 rfl (v := .int (sx z8 30)) rfl dX5_compare_48 ?_
            refine lv_iload E.1 E.2.1 dX5_compare_51 (lv_at hl 5 rfl) ?_
            refine tw_callVi E hK hT hS (As := [.int (sx z8 30), .int (x14)]) (rest := [.int (x13)]) (met_weightFor l G ta (d) hw) (cwV 2 E.2.2.2.2 (lw_V q2371 q2373 qs115 q128 q2374) rfl rfl rfl hd_weightFor (rm_ok (by omega) (by decide))) rfl rfl hl.1 (Nat.le_of_ble_eq_true rfl) dX5_compare_53 (fun r20 z19 H locs hw hT hS => ?_)
            refine lv_aload_n E.1 E.2.1 dX5_compare_56 rfl (lv_at hl 0 rfl) ?_
            refine lv_aload_n E.1 E.2.1 dX5_compare_57 rfl (lv_at hl 0 rfl) ?_
            refine tw_get E hK hT 29 (Nat.le_of_ble_eq_true rfl) q1839 rfl (v := .int (sx z19 29)) rfl dX5_compare_58 ?_
            refine lv_iload E.1 E.2.1 dX5_compare_61 (lv_at hl 5 rfl) ?_
            refine tw_callVi E hK hT hS (As := [.int (sx z19 29), .int (x14)]) (rest := [.int (r20), .int (x13)]) (met_weightFor l G ta (d) hw) (cwV 2 E.2.2.2.2 (lw_V q2371 q2373 qs115 q128 q2374) rfl rfl rfl hd_weightFor (rm_ok (by omega) (by decide))) rfl rfl hl.1 (Nat.le_of_ble_eq_true rfl) dX5_compare_63 (fun r22 z21 H locs hw hT hS => ?_)
            refine lv_isub E.1 E.2.1 dX5_compare_66 ?_
            refine lv_iadd E.1 E.2.1 dX5_compare_67 ?_
            refine lv_topi (fun x23 ex23 => ?_)
            replace hw := hw x23 ex23
            refine lv_istore (lv' := [(4, .int (x23)), (0, .ref (ta 73)), (1, .int (i1)), (2, .int (x11)), (3, .int (x12)), (5, .int (x14))]) E.1 E.2.1 dX5_compare_68 hl (Nat.le_of_ble_eq_true rfl) rfl (fun ls hl => ?_)
            refine lv_aload_n E.1 E.2.1 dX5_compare_70 rfl (lv_at hl 1 rfl) ?_
            refine lv_iload E.1 E.2.1 dX5_compare_71 (lv_at hl 5 rfl) ?_
            refine tw_callVz E hK hT hS (As := [.int (x14)]) (rest := []) (met_isMoved l G ta (d) hw) (cwV 1 E.2.2.2.2 (lw_V q2436 q2438 qs119 q128 q2439) rfl rfl rfl hd_isMoved (rm_ok (by omega) (by decide))) rfl rfl hl.1 (Nat.le_of_ble_eq_true rfl) dX5_compare_73 (fun b25 z24 H locs hw hT hS => ?_)
            refine lv_if_ne (tgt := 82) E.1 E.2.1 dX5_compare_76 (by decide) (fun c26 => ?_) (fun c26 => ?_)
            · replace hw := hw.1 (bi_n c26)
              refine lv_iinc (k := 3) (v := x11 + nI 1) (lv' := [(2, .int (x11 + nI 1)), (4, .int (x23)), (0, .ref (ta 73)), (1, .int (i1)), (3, .int (x12)), (5, .int (x14))]) E.1 E.2.1 dX5_compare_82 hl rfl rfl (Nat.le_of_ble_eq_true rfl) rfl (fun ls hl => ?_)
              refine lv_iload_n E.1 E.2.1 dX5_compare_85 rfl (lv_at hl 4 rfl) ?_
              refine lv_if_ge (tgt := 92) E.1 E.2.1 dX5_compare_86 (by decide) (fun c27 => ?_) (fun c27 => ?_)
              · replace hw := hw.1 (c27)
                refine lv_iinc (k := 5) (v := x14 + nI 1) (lv' := [(5, .int (x14 + nI 1)), (2, .int (x11 + nI 1)), (4, .int (x23)), (0, .ref (ta 73)), (1, .int (i1)), (3, .int (x12))]) E.1 E.2.1 dX5_compare_92 hl rfl rfl (Nat.le_of_ble_eq_true rfl) rfl (fun ls hl => ?_)
                refine lv_goto (tgt := 35) E.1 E.2.1 dX5_compare_95 (by decide) ?_
                obtain ⟨n28, hnn28, hin28⟩ := hw
                exact ih9 n28 hnn28 _ _ _ _ _ hin28 _ _ _ hT hS (lv_sub hl [3, 4, 1, 5, 2, 0] rfl)
              · replace hw := hw.2 (c27)
                refine lv_iload E.1 E.2.1 dX5_compare_89 (lv_at hl 5 rfl) ?_
                refine lv_istore_n (lv' := [(3, .int (x14)), (2, .int (x11 + nI 1)), (4, .int (x23)), (0, .ref (ta 73)), (1, .int (i1)), (5, .int (x14))]) E.1 E.2.1 dX5_compare_91 rfl hl (Nat.le_of_ble_eq_true rfl) rfl (fun ls hl => ?_)
                refine lv_iinc (k := 5) (v := x14 + nI 1) (lv' := [(5, .int (x14 + nI 1)), (3, .int (x14)), (2, .int (x11 + nI 1)), (4, .int (x23)), (0, .ref (ta 73)), (1, .int (i1))]) E.1 E.2.1 dX5_compare_92 hl rfl rfl (Nat.le_of_ble_eq_true rfl) rfl (fun ls hl => ?_)
                refine lv_goto (tgt := 35) E.1 E.2.1 dX5_compare_95 (by decide) ?_
                obtain ⟨n29, hnn29, hin29⟩ := hw
                exact ih9 n29 hnn29 _ _ _ _ _ hin29 _ _ _ hT hS (lv_sub hl [4, 5, 2, 1, 3, 0] rfl)
            · replace hw := hw.2 (bi_z c26)
              refine lv_goto (tgt := 92) E.1 E.2.1 dX5_compare_79 (by decide) ?_
              refine lv_iinc (k := 5) (v := x14 + nI 1) (lv' := [(5, .int (x14 + nI 1)), (4, .int (x23)), (0, .ref (ta 73)), (1, .int (i1)), (2, .int (x11)), (3, .int (x12))]) E.1 E.2.1 dX5_compare_92 hl rfl rfl (Nat.le_of_ble_eq_true rfl) rfl (fun ls hl => ?_)
              refine lv_goto (tgt := 35) E.1 E.2.1 dX5_compare_95 (by decide) ?_
              obtain ⟨n30, hnn30, hin30⟩ := hw
              exact ih9 n30 hnn30 _ _ _ _ _ hin30 _ _ _ hT hS (lv_sub hl [2, 3, 4, 5, 1, 0] rfl)
      exact L10 n15 _ _ _ _ _ hi32 _ _ _ hT hS (lv_sub hl [4, 5, 3, 2, 1, 0] rfl)
    · replace hw := hw.2 (bi_z c5)
      refine lv_ldcw (v := (-100000)) E.1 E.2.1 E.2.2.2.1 (E.2.2.2.2 _ q2435) dX5_compare_21 ?_
      exact tw_ireti E hr hlocks hT hS hw dX5_compare_24
/-- keptWeight(I)I -/
def wp_keptWeight (post : Int32 → TS → Prop) (z0 : TS) (i1 : Int32) : Prop := ∀ z1, z1 = ux z0 2 (nI 0) → ((sx z1 32) = 0 → post ((-1)) z1) ∧ (¬ (sx z1 32) = 0 → wp_isStay (fun b4 z3 => (b4 = false → post ((-1)) z3) ∧ (b4 = true → wp_weightFor (fun r7 z6 => post r7 z6) z3 (sx z3 30) i1)) z1 i1)
theorem hd_keptWeight : yX5_keptWeight.cls = RX5 ∧ yX5_keptWeight.cls ≠ "java/lang/invoke/MethodHandle" ∧ yX5_keptWeight.cls ≠ "java/lang/invoke/VarHandle" ∧ (parseMethodDescriptor yX5_keptWeight.desc).map (fun d => d.parameters.length) = some 1 := by decide +kernel
set_option maxHeartbeats 4000000 in
theorem met_keptWeight (l : Launch) (G : GP) (ta : Nat → Nat) (d : Nat) {post : Int32 → TS → Prop} {z0 : TS} {i1 : Int32} (hw : wp_keptWeight post z0 i1) : Met l yX5_keptWeight (ws_ yX5_keptWeight cX5_keptWeight 2 (some .int)) (rmd (d + 406) 0 0) (tPc G ta z0 [.ref (ta 73), .int (i1)]) (tQi G ta post) 0 0 (TA ta) := by
  unfold wp_keptWeight at hw
  refine tw_met (by decide) rfl (Nat.le_of_ble_eq_true rfl) ?_
  intro p e s m args below meth c ls E hr hlocks hK hT hS hl
  replace hl : lv_has ls 2 [(0, .ref (ta 73)), (1, .int (i1))] := hl
  refine lv_aload_n E.1 E.2.1 dX5_keptWeight_0 rfl (lv_at hl 0 rfl) ?_
  refine lv_iconst (v := nI 0) E.1 E.2.1 dX5_keptWeight_1 rfl ?_
  refine tw_puti E hK hT hS 2 (Nat.le_of_ble_eq_true rfl) q1812 rfl rfl rfl rfl dX5_keptWeight_2 (fun H locs hT hS => ?_)
  obtain ⟨z1, ez1⟩ : ∃ y, y = ux z0 2 (nI 0) := ⟨_, rfl⟩
  rw [← ez1] at hT
  replace hw := hw z1 ez1
  refine lv_aload_n E.1 E.2.1 dX5_keptWeight_5 rfl (lv_at hl 0 rfl) ?_
  refine tw_get E hK hT 32 (Nat.le_of_ble_eq_true rfl) q1842 rfl (v := .int (sx z1 32)) rfl dX5_keptWeight_6 ?_
  refine lv_if_eq (tgt := 32) E.1 E.2.1 dX5_keptWeight_9 (by decide) (fun c2 => ?_) (fun c2 => ?_)
  · replace hw := hw.1 (c2)
    refine lv_iconst (v := (-1)) E.1 E.2.1 dX5_keptWeight_32 rfl ?_
    exact tw_ireti E hr hlocks hT hS hw dX5_keptWeight_33
  · replace hw := hw.2 (c2)
    refine lv_aload_n E.1 E.2.1 dX5_keptWeight_12 rfl (lv_at hl 0 rfl) ?_
    refine lv_iload_n E.1 E.2.1 dX5_keptWeight_13 rfl (lv_at hl 1 rfl) ?_
    refine tw_callVz E hK hT hS (As := [.int (i1)]) (rest := []) (met_isStay l G ta (d + 404) hw) (cwV 1 E.2.2.2.2 (lw_V q2294 q2296 qs102 q128 q2297) rfl rfl rfl hd_isStay (rm_ok (by omega) (by decide))) rfl rfl hl.1 (Nat.le_of_ble_eq_true rfl) dX5_keptWeight_14 (fun b4 z3 H locs hw hT hS => ?_)
    refine lv_if_eq (tgt := 32) E.1 E.2.1 dX5_keptWeight_17 (by decide) (fun c5 => ?_) (fun c5 => ?_)
    · replace hw := hw.1 (bi_z c5)
      refine lv_iconst (v := (-1)) E.1 E.2.1 dX5_keptWeight_32 rfl ?_
      exact tw_ireti E hr hlocks hT hS hw dX5_keptWeight_33
    · replace hw := hw.2 (bi_n c5)
      refine lv_aload_n E.1 E.2.1 dX5_keptWeight_20 rfl (lv_at hl 0 rfl) ?_
      refine lv_aload_n E.1 E.2.1 dX5_keptWeight_21 rfl (lv_at hl 0 rfl) ?_
      refine tw_get E hK hT 30 (Nat.le_of_ble_eq_true rfl) q1840 rfl (v := .int (sx z3 30)) rfl dX5_keptWeight_22 ?_
      refine lv_iload_n E.1 E.2.1 dX5_keptWeight_25 rfl (lv_at hl 1 rfl) ?_
      refine tw_callVi E hK hT hS (As := [.int (sx z3 30), .int (i1)]) (rest := []) (met_weightFor l G ta (d) hw) (cwV 2 E.2.2.2.2 (lw_V q2371 q2373 qs115 q128 q2374) rfl rfl rfl hd_weightFor (rm_ok (by omega) (by decide))) rfl rfl hl.1 (Nat.le_of_ble_eq_true rfl) dX5_keptWeight_26 (fun r7 z6 H locs hw hT hS => ?_)
      refine lv_goto (tgt := 33) E.1 E.2.1 dX5_keptWeight_29 (by decide) ?_
      exact tw_ireti E hr hlocks hT hS hw dX5_keptWeight_33
/-- swap()Z -/
def wp_swap (post : Bool → TS → Prop) (z0 : TS) : Prop := ∀ z1, z1 = ux z0 2 (nI 0) → (¬ (sx z1 32) = 0 → ∀ x3, x3 = sx z1 29 → ∀ z4, z4 = ux z1 29 (sx z1 30) → ∀ z5, z5 = ux z4 30 x3 → wp_laysLeaves (fun z6 => post true z6) z5) ∧ ((sx z1 32) = 0 → post false z1)
theorem hd_swap : yX5_swap.cls = RX5 ∧ yX5_swap.cls ≠ "java/lang/invoke/MethodHandle" ∧ yX5_swap.cls ≠ "java/lang/invoke/VarHandle" ∧ (parseMethodDescriptor yX5_swap.desc).map (fun d => d.parameters.length) = some 0 := by decide +kernel
set_option maxHeartbeats 4000000 in
theorem met_swap (l : Launch) (G : GP) (ta : Nat → Nat) (d : Nat) {post : Bool → TS → Prop} {z0 : TS} (hw : wp_swap post z0) : Met l yX5_swap (ws_ yX5_swap cX5_swap 2 (some .boolean)) (rmd (d + 410) 0 0) (tPc G ta z0 [.ref (ta 73)]) (tQz G ta post) 0 0 (TA ta) := by
  unfold wp_swap at hw
  refine tw_met (by decide) rfl (Nat.le_of_ble_eq_true rfl) ?_
  intro p e s m args below meth c ls E hr hlocks hK hT hS hl
  replace hl : lv_has ls 2 [(0, .ref (ta 73))] := hl
  refine lv_aload_n E.1 E.2.1 dX5_swap_0 rfl (lv_at hl 0 rfl) ?_
  refine lv_iconst (v := nI 0) E.1 E.2.1 dX5_swap_1 rfl ?_
  refine tw_puti E hK hT hS 2 (Nat.le_of_ble_eq_true rfl) q1812 rfl rfl rfl rfl dX5_swap_2 (fun H locs hT hS => ?_)
  obtain ⟨z1, ez1⟩ : ∃ y, y = ux z0 2 (nI 0) := ⟨_, rfl⟩
  rw [← ez1] at hT
  replace hw := hw z1 ez1
  refine lv_aload_n E.1 E.2.1 dX5_swap_5 rfl (lv_at hl 0 rfl) ?_
  refine tw_get E hK hT 32 (Nat.le_of_ble_eq_true rfl) q1842 rfl (v := .int (sx z1 32)) rfl dX5_swap_6 ?_
  refine lv_if_ne (tgt := 14) E.1 E.2.1 dX5_swap_9 (by decide) (fun c2 => ?_) (fun c2 => ?_)
  · replace hw := hw.1 (c2)
    refine lv_aload_n E.1 E.2.1 dX5_swap_14 rfl (lv_at hl 0 rfl) ?_
    refine tw_get E hK hT 29 (Nat.le_of_ble_eq_true rfl) q1839 rfl (v := .int (sx z1 29)) rfl dX5_swap_15 ?_
    refine lv_topi (fun x3 ex3 => ?_)
    replace hw := hw x3 ex3
    refine lv_istore_n (lv' := [(1, .int (x3)), (0, .ref (ta 73))]) E.1 E.2.1 dX5_swap_18 rfl hl (Nat.le_of_ble_eq_true rfl) rfl (fun ls hl => ?_)
    refine lv_aload_n E.1 E.2.1 dX5_swap_19 rfl (lv_at hl 1 rfl) ?_
    refine lv_aload_n E.1 E.2.1 dX5_swap_20 rfl (lv_at hl 1 rfl) ?_
    refine tw_get E hK hT 30 (Nat.le_of_ble_eq_true rfl) q1840 rfl (v := .int (sx z1 30)) rfl dX5_swap_21 ?_
    refine tw_puti E hK hT hS 29 (Nat.le_of_ble_eq_true rfl) q1839 rfl rfl rfl rfl dX5_swap_24 (fun H locs hT hS => ?_)
    obtain ⟨z4, ez4⟩ : ∃ y, y = ux z1 29 (sx z1 30) := ⟨_, rfl⟩
    rw [← ez4] at hT
    replace hw := hw z4 ez4
    refine lv_aload_n E.1 E.2.1 dX5_swap_27 rfl (lv_at hl 1 rfl) ?_
    refine lv_iload_n E.1 E.2.1 dX5_swap_28 rfl (lv_at hl 0 rfl) ?_
    refine tw_puti E hK hT hS 30 (Nat.le_of_ble_eq_true rfl) q1840 rfl rfl rfl rfl dX5_swap_29 (fun H locs hT hS => ?_)
    obtain ⟨z5, ez5⟩ : ∃ y, y = ux z4 30 x3 := ⟨_, rfl⟩
    rw [← ez5] at hT
    replace hw := hw z5 ez5
    refine lv_aload_n E.1 E.2.1 dX5_swap_32 rfl (lv_at hl 1 rfl) ?_
    refine tw_callVv E hK hT hS (As := []) (rest := []) (met_laysLeaves l G ta (d) hw) (cwV 0 E.2.2.2.2 (lw_V q2251 q2253 qs95 q128 q2254) rfl rfl rfl hd_laysLeaves (rm_ok (by omega) (by decide))) rfl rfl hl.1 (Nat.le_of_ble_eq_true rfl) dX5_swap_33 (fun z6 H locs hw hT hS => ?_)
    refine lv_iconst (v := nI 1) E.1 E.2.1 dX5_swap_36 rfl ?_
    exact tw_iretz (b := true) E hr hlocks hT hS rfl hw dX5_swap_37
  · replace hw := hw.2 (c2)
    refine lv_iconst (v := nI 0) E.1 E.2.1 dX5_swap_12 rfl ?_
    exact tw_iretz (b := false) E hr hlocks hT hS rfl hw dX5_swap_13
/-- count(I)I -/
def wp_count (post : Int32 → TS → Prop) (z0 : TS) (i1 : Int32) : Prop := ∀ z1, z1 = ux z0 2 (nI 0) → (i1 = nI 0 → wp_chapters (fun r4 z3 => post r4 z3) z1 (sx z1 29)) ∧ (¬ i1 = nI 0 → (i1 = nI 1 → wp_ranks (fun r7 z6 => post r7 z6) z1 (sx z1 29)) ∧ (¬ i1 = nI 1 → (i1 = nI 2 → wp_partners (fun r10 z9 => post r10 z9) z1 (sx z1 29)) ∧ (¬ i1 = nI 2 → (i1 = nI 3 → wp_classes (fun r13 z12 => post r13 z12) z1 (sx z1 29)) ∧ (¬ i1 = nI 3 → (i1 = nI 4 → post (sx z1 66) z1) ∧ (¬ i1 = nI 4 → (i1 = nI 5 → ∃ I16 : Nat → TS → Int32 → Int32 → Prop, (∃ n23, I16 n23 z1 (nI 0) (nI 0)) ∧ ∀ (n17 : Nat) (z18 : TS) (x21 : Int32) (x22 : Int32), I16 n17 z18 x21 x22 → ((sx z18 66) ≤ x22 → post x21 z18) ∧ (¬ (sx z18 66) ≤ x22 → vp_in (x22) 40 ∧ vp_in (sf z18 67 x22.toNatClampNeg) 40 ∧ (¬ (sf z18 68 (sf z18 67 x22.toNatClampNeg).toNatClampNeg) = 0 → ∃ n26, n26 < n17 ∧ I16 n26 z18 x21 (x22 + nI 1)) ∧ ((sf z18 68 (sf z18 67 x22.toNatClampNeg).toNatClampNeg) = 0 → ∃ n27, n27 < n17 ∧ I16 n27 z18 (x21 + nI 1) (x22 + nI 1)))) ∧ (¬ i1 = nI 5 → (i1 = nI 6 → post (sx z1 34) z1) ∧ (¬ i1 = nI 6 → (i1 = nI 7 → ∃ I32 : Nat → TS → Int32 → Int32 → Prop, (∃ n39, I32 n39 z1 (nI 0) (nI 0)) ∧ ∀ (n33 : Nat) (z34 : TS) (x37 : Int32) (x38 : Int32), I32 n33 z34 x37 x38 → ((sx z34 34) ≤ x38 → post x37 z34) ∧ (¬ (sx z34 34) ≤ x38 → wp_weightFor (fun r42 z41 => ∀ x43, x43 = x37 + r42 → ∃ n44, n44 < n33 ∧ I32 n44 z41 x43 (x38 + nI 1)) z34 (sx z34 29) x38)) ∧ (¬ i1 = nI 7 → (i1 = nI 8 → ∃ I48 : Nat → TS → Int32 → Int32 → Prop, (∃ n55, I48 n55 z1 (nI 0) (nI 0)) ∧ ∀ (n49 : Nat) (z50 : TS) (x53 : Int32) (x54 : Int32), I48 n49 z50 x53 x54 → ((sx z50 34) ≤ x54 → post x53 z50) ∧ (¬ (sx z50 34) ≤ x54 → wp_classFor (fun r58 z57 => (0 ≤ r58 → ∃ n60, n60 < n49 ∧ I48 n60 z57 x53 (x54 + nI 1)) ∧ (¬ 0 ≤ r58 → ∃ n61, n61 < n49 ∧ I48 n61 z57 (x53 + nI 1) (x54 + nI 1))) z50 (sx z50 29) x54)) ∧ (¬ i1 = nI 8 → (i1 = nI 9 → post (sx z1 1) z1) ∧ (¬ i1 = nI 9 → (i1 = nI 10 → wp_nodes (fun r67 z66 => post r67 z66) z1 (sx z1 29)) ∧ (¬ i1 = nI 10 → post ((-1)) z1)))))))))))
theorem hd_count : yX5_count.cls = RX5 ∧ yX5_count.cls ≠ "java/lang/invoke/MethodHandle" ∧ yX5_count.cls ≠ "java/lang/invoke/VarHandle" ∧ (parseMethodDescriptor yX5_count.desc).map (fun d => d.parameters.length) = some 1 := by decide +kernel
set_option maxHeartbeats 4000000 in
theorem met_count (l : Launch) (G : GP) (ta : Nat → Nat) (d : Nat) {post : Int32 → TS → Prop} {z0 : TS} {i1 : Int32} (hw : wp_count post z0 i1) : Met l yX5_count (ws_ yX5_count cX5_count 4 (some .int)) (rmd (d + 406) 0 0) (tPc G ta z0 [.ref (ta 73), .int (i1)]) (tQi G ta post) 0 0 (TA ta) := by
  unfold wp_count at hw
  refine tw_met (by decide) rfl (Nat.le_of_ble_eq_true rfl) ?_
  intro p e s m args below meth c ls E hr hlocks hK hT hS hl
  replace hl : lv_has ls 4 [(0, .ref (ta 73)), (1, .int (i1))] := hl
  refine lv_aload_n E.1 E.2.1 dX5_count_0 rfl (lv_at hl 0 rfl) ?_
  refine lv_iconst (v := nI 0) E.1 E.2.1 dX5_count_1 rfl ?_
  refine tw_puti E hK hT hS 2 (Nat.le_of_ble_eq_true rfl) q1812 rfl rfl rfl rfl dX5_count_2 (fun H locs hT hS => ?_)
  obtain ⟨z1, ez1⟩ : ∃ y, y = ux z0 2 (nI 0) := ⟨_, rfl⟩
  rw [← ez1] at hT
  replace hw := hw z1 ez1
  refine lv_iconst (v := nI 0) E.1 E.2.1 dX5_count_5 rfl ?_
  refine lv_istore_n (lv' := [(2, .int (nI 0)), (0, .ref (ta 73)), (1, .int (i1))]) E.1 E.2.1 dX5_count_6 rfl hl (Nat.le_of_ble_eq_true rfl) rfl (fun ls hl => ?_)
  refine lv_iload_n E.1 E.2.1 dX5_count_7 rfl (lv_at hl 2 rfl) ?_
  by_cases c2 : i1 = nI 0
  · replace hw := hw.1 c2
    have hti : i1.toInt = 0 := by rw [c2]; decide
    refine lv_tableIn (tgt := 68) (off := 60) E.1 E.2.1 dX5_count_8 (by rw [hti]; decide) (by rw [hti]; decide) (by rw [hti]; rfl) (by decide) ?_
    refine lv_aload_n E.1 E.2.1 dX5_count_68 rfl (lv_at hl 1 rfl) ?_
    refine lv_aload_n E.1 E.2.1 dX5_count_69 rfl (lv_at hl 1 rfl) ?_
    refine tw_get E hK hT 29 (Nat.le_of_ble_eq_true rfl) q1839 rfl (v := .int (sx z1 29)) rfl dX5_count_70 ?_
    refine tw_callVi E hK hT hS (As := [.int (sx z1 29)]) (rest := []) (met_chapters l G ta (d + 405) hw) (cwV 1 E.2.2.2.2 (lw_V q2109 q2111 qs65 q128 q2112) rfl rfl rfl hd_chapters (rm_ok (by omega) (by decide))) rfl rfl hl.1 (Nat.le_of_ble_eq_true rfl) dX5_count_73 (fun r4 z3 H locs hw hT hS => ?_)
    exact tw_ireti E hr hlocks hT hS hw dX5_count_76
  replace hw := hw.2 c2
  by_cases c5 : i1 = nI 1
  · replace hw := hw.1 c5
    have hti : i1.toInt = 1 := by rw [c5]; decide
    refine lv_tableIn (tgt := 77) (off := 69) E.1 E.2.1 dX5_count_8 (by rw [hti]; decide) (by rw [hti]; decide) (by rw [hti]; rfl) (by decide) ?_
    refine lv_aload_n E.1 E.2.1 dX5_count_77 rfl (lv_at hl 1 rfl) ?_
    refine lv_aload_n E.1 E.2.1 dX5_count_78 rfl (lv_at hl 1 rfl) ?_
    refine tw_get E hK hT 29 (Nat.le_of_ble_eq_true rfl) q1839 rfl (v := .int (sx z1 29)) rfl dX5_count_79 ?_
    refine tw_callVi E hK hT hS (As := [.int (sx z1 29)]) (rest := []) (met_ranks l G ta (d + 405) hw) (cwV 1 E.2.2.2.2 (lw_V q2171 q2173 qs75 q128 q2174) rfl rfl rfl hd_ranks (rm_ok (by omega) (by decide))) rfl rfl hl.1 (Nat.le_of_ble_eq_true rfl) dX5_count_82 (fun r7 z6 H locs hw hT hS => ?_)
    exact tw_ireti E hr hlocks hT hS hw dX5_count_85
  replace hw := hw.2 c5
  by_cases c8 : i1 = nI 2
  · replace hw := hw.1 c8
    have hti : i1.toInt = 2 := by rw [c8]; decide
    refine lv_tableIn (tgt := 86) (off := 78) E.1 E.2.1 dX5_count_8 (by rw [hti]; decide) (by rw [hti]; decide) (by rw [hti]; rfl) (by decide) ?_
    refine lv_aload_n E.1 E.2.1 dX5_count_86 rfl (lv_at hl 1 rfl) ?_
    refine lv_aload_n E.1 E.2.1 dX5_count_87 rfl (lv_at hl 1 rfl) ?_
    refine tw_get E hK hT 29 (Nat.le_of_ble_eq_true rfl) q1839 rfl (v := .int (sx z1 29)) rfl dX5_count_88 ?_
    refine tw_callVi E hK hT hS (As := [.int (sx z1 29)]) (rest := []) (met_partners l G ta (d + 405) hw) (cwV 1 E.2.2.2.2 (lw_V q2183 q2185 qs78 q128 q2186) rfl rfl rfl hd_partners (rm_ok (by omega) (by decide))) rfl rfl hl.1 (Nat.le_of_ble_eq_true rfl) dX5_count_91 (fun r10 z9 H locs hw hT hS => ?_)
    exact tw_ireti E hr hlocks hT hS hw dX5_count_94
  replace hw := hw.2 c8
  by_cases c11 : i1 = nI 3
  · replace hw := hw.1 c11
    have hti : i1.toInt = 3 := by rw [c11]; decide
    refine lv_tableIn (tgt := 95) (off := 87) E.1 E.2.1 dX5_count_8 (by rw [hti]; decide) (by rw [hti]; decide) (by rw [hti]; rfl) (by decide) ?_
    refine lv_aload_n E.1 E.2.1 dX5_count_95 rfl (lv_at hl 1 rfl) ?_
    refine lv_aload_n E.1 E.2.1 dX5_count_96 rfl (lv_at hl 1 rfl) ?_
    refine tw_get E hK hT 29 (Nat.le_of_ble_eq_true rfl) q1839 rfl (v := .int (sx z1 29)) rfl dX5_count_97 ?_
    refine tw_callVi E hK hT hS (As := [.int (sx z1 29)]) (rest := []) (met_classes l G ta (d + 405) hw) (cwV 1 E.2.2.2.2 (lw_V q2219 q2221 qs87 q128 q2222) rfl rfl rfl hd_classes (rm_ok (by omega) (by decide))) rfl rfl hl.1 (Nat.le_of_ble_eq_true rfl) dX5_count_100 (fun r13 z12 H locs hw hT hS => ?_)
    exact tw_ireti E hr hlocks hT hS hw dX5_count_103
  replace hw := hw.2 c11
  by_cases c14 : i1 = nI 4
  · replace hw := hw.1 c14
    have hti : i1.toInt = 4 := by rw [c14]; decide
    refine lv_tableIn (tgt := 104) (off := 96) E.1 E.2.1 dX5_count_8 (by rw [hti]; decide) (by rw [hti]; decide) (by rw [hti]; rfl) (by decide) ?_
    refine lv_aload_n E.1 E.2.1 dX5_count_104 rfl (lv_at hl 1 rfl) ?_
    refine tw_get E hK hT 66 (Nat.le_of_ble_eq_true rfl) q1876 rfl (v := .int (sx z1 66)) rfl dX5_count_105 ?_
    exact tw_ireti E hr hlocks hT hS hw dX5_count_108
  replace hw := hw.2 c14
  by_cases c15 : i1 = nI 5
  · replace hw := hw.1 c15
    have hti : i1.toInt = 5 := by rw [c15]; decide
    refine lv_tableIn (tgt := 109) (off := 101) E.1 E.2.1 dX5_count_8 (by rw [hti]; decide) (by rw [hti]; decide) (by rw [hti]; rfl) (by decide) ?_
    refine lv_iconst (v := nI 0) E.1 E.2.1 dX5_count_109 rfl ?_
    refine lv_istore_n (lv' := [(3, .int (nI 0)), (2, .int (nI 0)), (0, .ref (ta 73)), (1, .int (i1))]) E.1 E.2.1 dX5_count_110 rfl hl (Nat.le_of_ble_eq_true rfl) rfl (fun ls hl => ?_)
    obtain ⟨I16, ⟨n23, hi29⟩, hb28⟩ := hw
    have L20 : ∀ (n17 : Nat) (z18 : TS) (x21 : Int32) (x22 : Int32), I16 n17 z18 x21 x22 → ∀ (H : Heap) (locs : List Loc) (ls : Array Slot), TW G ta z18 H → va_S (TA ta) s.heap H locs → lv_has ls 4 [(0, .ref (ta 73)), (2, .int (x21)), (3, .int (x22))] → W p l e (rmd (d + 406) 0 0) s m args below meth c H locs 0 0 (MQ below (tQi G ta post) args s 0 0 (TA ta)) (F0 m 111 ls []) := by
      intro n17
      induction n17 using Nat.strongRecOn with
      | _ n17 ih19 =>
        intro z18 x21 x22 hw H locs ls hT hS hl
        replace hw := hb28 n17 z18 x21 x22 hw
        refine lv_iload_n E.1 E.2.1 dX5_count_111 rfl (lv_at hl 2 rfl) ?_
        refine lv_aload_n E.1 E.2.1 dX5_count_112 rfl (lv_at hl 0 rfl) ?_
        refine tw_get E hK hT 66 (Nat.le_of_ble_eq_true rfl) q1876 rfl (v := .int (sx z18 66)) rfl dX5_count_113 ?_
        refine lv_icmp_ge (tgt := 142) E.1 E.2.1 dX5_count_116 (by decide) (fun c24 => ?_) (fun c24 => ?_)
        · replace hw := hw.1 (c24)
          refine lv_iload_n E.1 E.2.1 dX5_count_142 rfl (lv_at hl 1 rfl) ?_
          exact tw_ireti E hr hlocks hT hS hw dX5_count_143
        · replace hw := hw.2 (c24)
          refine lv_aload_n E.1 E.2.1 dX5_count_119 rfl (lv_at hl 0 rfl) ?_
          refine tw_get E hK hT 68 (Nat.le_of_ble_eq_true rfl) q1878 rfl (v := .ref (ta 68)) rfl dX5_count_120 ?_
          refine lv_aload_n E.1 E.2.1 dX5_count_123 rfl (lv_at hl 0 rfl) ?_
          refine tw_get E hK hT 67 (Nat.le_of_ble_eq_true rfl) q1877 rfl (v := .ref (ta 67)) rfl dX5_count_124 ?_
          refine lv_iload_n E.1 E.2.1 dX5_count_127 rfl (lv_at hl 2 rfl) ?_
          obtain ⟨hin, hw⟩ := hw
          refine tw_iald E hK hT 67 rfl hin dX5_count_128 ?_
          obtain ⟨hin, hw⟩ := hw
          refine tw_zald E hK hT hin dX5_count_129 ?_
          refine lv_if_ne (tgt := 136) E.1 E.2.1 dX5_count_130 (by decide) (fun c25 => ?_) (fun c25 => ?_)
          · replace hw := hw.1 (c25)
            refine lv_iinc (k := 2) (v := x22 + nI 1) (lv' := [(3, .int (x22 + nI 1)), (0, .ref (ta 73)), (2, .int (x21))]) E.1 E.2.1 dX5_count_136 hl rfl rfl (Nat.le_of_ble_eq_true rfl) rfl (fun ls hl => ?_)
            refine lv_goto (tgt := 111) E.1 E.2.1 dX5_count_139 (by decide) ?_
            obtain ⟨n26, hnn26, hin26⟩ := hw
            exact ih19 n26 hnn26 _ _ _ hin26 _ _ _ hT hS (lv_sub hl [1, 2, 0] rfl)
          · replace hw := hw.2 (c25)
            refine lv_iinc (k := 1) (v := x21 + nI 1) (lv' := [(2, .int (x21 + nI 1)), (0, .ref (ta 73)), (3, .int (x22))]) E.1 E.2.1 dX5_count_133 hl rfl rfl (Nat.le_of_ble_eq_true rfl) rfl (fun ls hl => ?_)
            refine lv_iinc (k := 2) (v := x22 + nI 1) (lv' := [(3, .int (x22 + nI 1)), (2, .int (x21 + nI 1)), (0, .ref (ta 73))]) E.1 E.2.1 dX5_count_136 hl rfl rfl (Nat.le_of_ble_eq_true rfl) rfl (fun ls hl => ?_)
            refine lv_goto (tgt := 111) E.1 E.2.1 dX5_count_139 (by decide) ?_
            obtain ⟨n27, hnn27, hin27⟩ := hw
            exact ih19 n27 hnn27 _ _ _ hin27 _ _ _ hT hS (lv_sub hl [2, 1, 0] rfl)
    exact L20 n23 _ _ _ hi29 _ _ _ hT hS (lv_sub hl [2, 1, 0] rfl)
  replace hw := hw.2 c15
  by_cases c30 : i1 = nI 6
  · replace hw := hw.1 c30
    have hti : i1.toInt = 6 := by rw [c30]; decide
    refine lv_tableIn (tgt := 144) (off := 136) E.1 E.2.1 dX5_count_8 (by rw [hti]; decide) (by rw [hti]; decide) (by rw [hti]; rfl) (by decide) ?_
    refine lv_aload_n E.1 E.2.1 dX5_count_144 rfl (lv_at hl 1 rfl) ?_
    refine tw_get E hK hT 34 (Nat.le_of_ble_eq_true rfl) q1844 rfl (v := .int (sx z1 34)) rfl dX5_count_145 ?_
    exact tw_ireti E hr hlocks hT hS hw dX5_count_148
  replace hw := hw.2 c30
  by_cases c31 : i1 = nI 7
  · replace hw := hw.1 c31
    have hti : i1.toInt = 7 := by rw [c31]; decide
    refine lv_tableIn (tgt := 149) (off := 141) E.1 E.2.1 dX5_count_8 (by rw [hti]; decide) (by rw [hti]; decide) (by rw [hti]; rfl) (by decide) ?_
    refine lv_iconst (v := nI 0) E.1 E.2.1 dX5_count_149 rfl ?_
    refine lv_istore_n (lv' := [(3, .int (nI 0)), (2, .int (nI 0)), (0, .ref (ta 73)), (1, .int (i1))]) E.1 E.2.1 dX5_count_150 rfl hl (Nat.le_of_ble_eq_true rfl) rfl (fun ls hl => ?_)
    obtain ⟨I32, ⟨n39, hi46⟩, hb45⟩ := hw
    have L36 : ∀ (n33 : Nat) (z34 : TS) (x37 : Int32) (x38 : Int32), I32 n33 z34 x37 x38 → ∀ (H : Heap) (locs : List Loc) (ls : Array Slot), TW G ta z34 H → va_S (TA ta) s.heap H locs → lv_has ls 4 [(0, .ref (ta 73)), (2, .int (x37)), (3, .int (x38))] → W p l e (rmd (d + 406) 0 0) s m args below meth c H locs 0 0 (MQ below (tQi G ta post) args s 0 0 (TA ta)) (F0 m 151 ls []) := by
      intro n33
      induction n33 using Nat.strongRecOn with
      | _ n33 ih35 =>
        intro z34 x37 x38 hw H locs ls hT hS hl
        replace hw := hb45 n33 z34 x37 x38 hw
        refine lv_iload_n E.1 E.2.1 dX5_count_151 rfl (lv_at hl 2 rfl) ?_
        refine lv_aload_n E.1 E.2.1 dX5_count_152 rfl (lv_at hl 0 rfl) ?_
        refine tw_get E hK hT 34 (Nat.le_of_ble_eq_true rfl) q1844 rfl (v := .int (sx z34 34)) rfl dX5_count_153 ?_
        refine lv_icmp_ge (tgt := 177) E.1 E.2.1 dX5_count_156 (by decide) (fun c40 => ?_) (fun c40 => ?_)
        · replace hw := hw.1 (c40)
          refine lv_iload_n E.1 E.2.1 dX5_count_177 rfl (lv_at hl 1 rfl) ?_
          exact tw_ireti E hr hlocks hT hS hw dX5_count_178
        · replace hw := hw.2 (c40)
          refine lv_iload_n E.1 E.2.1 dX5_count_159 rfl (lv_at hl 1 rfl) ?_
          refine lv_aload_n E.1 E.2.1 dX5_count_160 rfl (lv_at hl 0 rfl) ?_
          refine lv_aload_n E.1 E.2.1 dX5_count_161 rfl (lv_at hl 0 rfl) ?_
          refine tw_get E hK hT 29 (Nat.le_of_ble_eq_true rfl) q1839 rfl (v := .int (sx z34 29)) rfl dX5_count_162 ?_
          refine lv_iload_n E.1 E.2.1 dX5_count_165 rfl (lv_at hl 2 rfl) ?_
          refine tw_callVi E hK hT hS (As := [.int (sx z34 29), .int (x38)]) (rest := [.int (x37)]) (met_weightFor l G ta (d) hw) (cwV 2 E.2.2.2.2 (lw_V q2371 q2373 qs115 q128 q2374) rfl rfl rfl hd_weightFor (rm_ok (by omega) (by decide))) rfl rfl hl.1 (Nat.le_of_ble_eq_true rfl) dX5_count_166 (fun r42 z41 H locs hw hT hS => ?_)
          refine lv_iadd E.1 E.2.1 dX5_count_169 ?_
          refine lv_topi (fun x43 ex43 => ?_)
          replace hw := hw x43 ex43
          refine lv_istore_n (lv' := [(2, .int (x43)), (0, .ref (ta 73)), (3, .int (x38))]) E.1 E.2.1 dX5_count_170 rfl hl (Nat.le_of_ble_eq_true rfl) rfl (fun ls hl => ?_)
          refine lv_iinc (k := 2) (v := x38 + nI 1) (lv' := [(3, .int (x38 + nI 1)), (2, .int (x43)), (0, .ref (ta 73))]) E.1 E.2.1 dX5_count_171 hl rfl rfl (Nat.le_of_ble_eq_true rfl) rfl (fun ls hl => ?_)
          refine lv_goto (tgt := 151) E.1 E.2.1 dX5_count_174 (by decide) ?_
          obtain ⟨n44, hnn44, hin44⟩ := hw
          exact ih35 n44 hnn44 _ _ _ hin44 _ _ _ hT hS (lv_sub hl [2, 1, 0] rfl)
    exact L36 n39 _ _ _ hi46 _ _ _ hT hS (lv_sub hl [2, 1, 0] rfl)
  replace hw := hw.2 c31
  by_cases c47 : i1 = nI 8
  · replace hw := hw.1 c47
    have hti : i1.toInt = 8 := by rw [c47]; decide
    refine lv_tableIn (tgt := 179) (off := 171) E.1 E.2.1 dX5_count_8 (by rw [hti]; decide) (by rw [hti]; decide) (by rw [hti]; rfl) (by decide) ?_
    refine lv_iconst (v := nI 0) E.1 E.2.1 dX5_count_179 rfl ?_
    refine lv_istore_n (lv' := [(3, .int (nI 0)), (2, .int (nI 0)), (0, .ref (ta 73)), (1, .int (i1))]) E.1 E.2.1 dX5_count_180 rfl hl (Nat.le_of_ble_eq_true rfl) rfl (fun ls hl => ?_)
    obtain ⟨I48, ⟨n55, hi63⟩, hb62⟩ := hw
    have L52 : ∀ (n49 : Nat) (z50 : TS) (x53 : Int32) (x54 : Int32), I48 n49 z50 x53 x54 → ∀ (H : Heap) (locs : List Loc) (ls : Array Slot), TW G ta z50 H → va_S (TA ta) s.heap H locs → lv_has ls 4 [(0, .ref (ta 73)), (2, .int (x53)), (3, .int (x54))] → W p l e (rmd (d + 406) 0 0) s m args below meth c H locs 0 0 (MQ below (tQi G ta post) args s 0 0 (TA ta)) (F0 m 181 ls []) := by
      intro n49
      induction n49 using Nat.strongRecOn with
      | _ n49 ih51 =>
        intro z50 x53 x54 hw H locs ls hT hS hl
        replace hw := hb62 n49 z50 x53 x54 hw
        refine lv_iload_n E.1 E.2.1 dX5_count_181 rfl (lv_at hl 2 rfl) ?_
        refine lv_aload_n E.1 E.2.1 dX5_count_182 rfl (lv_at hl 0 rfl) ?_
        refine tw_get E hK hT 34 (Nat.le_of_ble_eq_true rfl) q1844 rfl (v := .int (sx z50 34)) rfl dX5_count_183 ?_
        refine lv_icmp_ge (tgt := 210) E.1 E.2.1 dX5_count_186 (by decide) (fun c56 => ?_) (fun c56 => ?_)
        · replace hw := hw.1 (c56)
          refine lv_iload_n E.1 E.2.1 dX5_count_210 rfl (lv_at hl 1 rfl) ?_
          exact tw_ireti E hr hlocks hT hS hw dX5_count_211
        · replace hw := hw.2 (c56)
          refine lv_aload_n E.1 E.2.1 dX5_count_189 rfl (lv_at hl 0 rfl) ?_
          refine lv_aload_n E.1 E.2.1 dX5_count_190 rfl (lv_at hl 0 rfl) ?_
          refine tw_get E hK hT 29 (Nat.le_of_ble_eq_true rfl) q1839 rfl (v := .int (sx z50 29)) rfl dX5_count_191 ?_
          refine lv_iload_n E.1 E.2.1 dX5_count_194 rfl (lv_at hl 2 rfl) ?_
          refine tw_callVi E hK hT hS (As := [.int (sx z50 29), .int (x54)]) (rest := []) (met_classFor l G ta (d + 1) hw) (cwV 2 E.2.2.2.2 (lw_V q2359 q2361 qs112 q128 q2362) rfl rfl rfl hd_classFor (rm_ok (by omega) (by decide))) rfl rfl hl.1 (Nat.le_of_ble_eq_true rfl) dX5_count_195 (fun r58 z57 H locs hw hT hS => ?_)
          refine lv_if_ge (tgt := 204) E.1 E.2.1 dX5_count_198 (by decide) (fun c59 => ?_) (fun c59 => ?_)
          · replace hw := hw.1 (c59)
            refine lv_iinc (k := 2) (v := x54 + nI 1) (lv' := [(3, .int (x54 + nI 1)), (0, .ref (ta 73)), (2, .int (x53))]) E.1 E.2.1 dX5_count_204 hl rfl rfl (Nat.le_of_ble_eq_true rfl) rfl (fun ls hl => ?_)
            refine lv_goto (tgt := 181) E.1 E.2.1 dX5_count_207 (by decide) ?_
            obtain ⟨n60, hnn60, hin60⟩ := hw
            exact ih51 n60 hnn60 _ _ _ hin60 _ _ _ hT hS (lv_sub hl [1, 2, 0] rfl)
          · replace hw := hw.2 (c59)
            refine lv_iinc (k := 1) (v := x53 + nI 1) (lv' := [(2, .int (x53 + nI 1)), (0, .ref (ta 73)), (3, .int (x54))]) E.1 E.2.1 dX5_count_201 hl rfl rfl (Nat.le_of_ble_eq_true rfl) rfl (fun ls hl => ?_)
            refine lv_iinc (k := 2) (v := x54 + nI 1) (lv' := [(3, .int (x54 + nI 1)), (2, .int (x53 + nI 1)), (0, .ref (ta 73))]) E.1 E.2.1 dX5_count_204 hl rfl rfl (Nat.le_of_ble_eq_true rfl) rfl (fun ls hl => ?_)
            refine lv_goto (tgt := 181) E.1 E.2.1 dX5_count_207 (by decide) ?_
            obtain ⟨n61, hnn61, hin61⟩ := hw
            exact ih51 n61 hnn61 _ _ _ hin61 _ _ _ hT hS (lv_sub hl [2, 1, 0] rfl)
    exact L52 n55 _ _ _ hi63 _ _ _ hT hS (lv_sub hl [2, 1, 0] rfl)
  replace hw := hw.2 c47
  by_cases c64 : i1 = nI 9
  · replace hw := hw.1 c64
    have hti : i1.toInt = 9 := by rw [c64]; decide
    refine lv_tableIn (tgt := 212) (off := 204) E.1 E.2.1 dX5_count_8 (by rw [hti]; decide) (by rw [hti]; decide) (by rw [hti]; rfl) (by decide) ?_
    refine lv_aload_n E.1 E.2.1 dX5_count_212 rfl (lv_at hl 1 rfl) ?_
    refine tw_get E hK hT 1 (Nat.le_of_ble_eq_true rfl) q1811 rfl (v := .int (sx z1 1)) rfl dX5_count_213 ?_
    exact tw_ireti E hr hlocks hT hS hw dX5_count_216
  replace hw := hw.2 c64
  by_cases c65 : i1 = nI 10
  · replace hw := hw.1 c65
    have hti : i1.toInt = 10 := by rw [c65]; decide
    refine lv_tableIn (tgt := 217) (off := 209) E.1 E.2.1 dX5_count_8 (by rw [hti]; decide) (by rw [hti]; decide) (by rw [hti]; rfl) (by decide) ?_
    refine lv_aload_n E.1 E.2.1 dX5_count_217 rfl (lv_at hl 1 rfl) ?_
    refine lv_aload_n E.1 E.2.1 dX5_count_218 rfl (lv_at hl 1 rfl) ?_
    refine tw_get E hK hT 29 (Nat.le_of_ble_eq_true rfl) q1839 rfl (v := .int (sx z1 29)) rfl dX5_count_219 ?_
    refine tw_callVi E hK hT hS (As := [.int (sx z1 29)]) (rest := []) (met_nodes l G ta (d + 405) hw) (cwV 1 E.2.2.2.2 (lw_V q2211 q2213 qs85 q128 q2214) rfl rfl rfl hd_nodes (rm_ok (by omega) (by decide))) rfl rfl hl.1 (Nat.le_of_ble_eq_true rfl) dX5_count_222 (fun r67 z66 H locs hw hT hS => ?_)
    exact tw_ireti E hr hlocks hT hS hw dX5_count_225
  replace hw := hw.2 c65
  refine lv_tableOut (tgt := 226) E.1 E.2.1 dX5_count_8 (tab_out (fun j h1 h2 h3 => ?_)) (by decide) ?_
  · have hj : j = 0 ∨ j = 1 ∨ j = 2 ∨ j = 3 ∨ j = 4 ∨ j = 5 ∨ j = 6 ∨ j = 7 ∨ j = 8 ∨ j = 9 ∨ j = 10 := by omega
    rcases hj with rfl | rfl | rfl | rfl | rfl | rfl | rfl | rfl | rfl | rfl | rfl
    · exact c2 (Int32.toInt_inj.mp (by rw [h3]; decide))
    · exact c5 (Int32.toInt_inj.mp (by rw [h3]; decide))
    · exact c8 (Int32.toInt_inj.mp (by rw [h3]; decide))
    · exact c11 (Int32.toInt_inj.mp (by rw [h3]; decide))
    · exact c14 (Int32.toInt_inj.mp (by rw [h3]; decide))
    · exact c15 (Int32.toInt_inj.mp (by rw [h3]; decide))
    · exact c30 (Int32.toInt_inj.mp (by rw [h3]; decide))
    · exact c31 (Int32.toInt_inj.mp (by rw [h3]; decide))
    · exact c47 (Int32.toInt_inj.mp (by rw [h3]; decide))
    · exact c64 (Int32.toInt_inj.mp (by rw [h3]; decide))
    · exact c65 (Int32.toInt_inj.mp (by rw [h3]; decide))
  · skip
    refine lv_iconst (v := (-1)) E.1 E.2.1 dX5_count_226 rfl ?_
    exact tw_ireti E hr hlocks hT hS hw dX5_count_227
