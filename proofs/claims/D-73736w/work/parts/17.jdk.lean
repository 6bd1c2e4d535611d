/-! the JDK methods: weakest preconditions and walks (printed) -/
set_option maxRecDepth 100000
/-- java/util/AbstractCollection.<init>()V -/
def wp_J0_init_r18 (G : GP) (post : HS → Prop) (y0 : HS) (a0 : Nat) : Prop := post y0
theorem hs_J0_init_r18 : yJ0_init.cls ≠ "java/lang/invoke/MethodHandle" ∧ yJ0_init.cls ≠ "java/lang/invoke/VarHandle" ∧ (parseMethodDescriptor yJ0_init.desc).map (fun d => d.parameters.length) = some 0 := by decide +kernel
set_option maxHeartbeats 4000000 in
theorem met_J0_init_r18 (l : Launch) (G : GP) (d : Nat) {post : HS → Prop} {y0 : HS} {a0 : Nat} (hw : wp_J0_init_r18 G post y0 a0) : vx_Met l yJ0_init (ws_ yJ0_init cJ0_init 1 none) (rmB (d + 1) 0) (hPc G y0 [va_rf (some a0)]) (hQv G y0 post) (hX G y0 (fun _ _ _ => False)) 0 (20 * 0) (HA y0) := by
  unfold wp_J0_init_r18 at hw
  refine hv_met (own := RJ0) (by decide) rfl (Nat.le_of_ble_eq_true rfl) ?_
  intro p e s m args below meth c ls E hr hlocks hnm hE hK hI hl
  replace hl : lv_has ls 1 [(0, va_rf (some a0))] := hl
  refine hv_aload_n (r := some a0) E.1 E.2.1 dJ0_init_0 rfl (lv_at hl 0 rfl) ?_
  refine hv_objInit (r := some a0) E q213 hl.1 rfl (by first | rfl | decide | (simp [va_rf_cat, int_cat, long_cat]; done) | (simp [va_rf_cat, int_cat, long_cat]; decide)) dJ0_init_1 ?_
  exact hv_vret E hr hlocks hI (Nat.le_refl 0) hw dJ0_init_4
/-- java/util/AbstractList.<init>()V -/
def wp_J1_init_r18 (G : GP) (post : HS → Prop) (y0 : HS) (a0 : Nat) : Prop := wp_J0_init_r18 G (fun y1 => ∃ fs3, y1.1 a0 = some (ob 18 fs3) ∧ 0 < fs3.length ∧ ∀ y2, y2 = hput y1 a0 (ob 18 (fs3.set 0 (.int (nI 0)))) → post y2) y0 a0
theorem hs_J1_init_r18 : yJ1_init.cls ≠ "java/lang/invoke/MethodHandle" ∧ yJ1_init.cls ≠ "java/lang/invoke/VarHandle" ∧ (parseMethodDescriptor yJ1_init.desc).map (fun d => d.parameters.length) = some 0 := by decide +kernel
set_option maxHeartbeats 4000000 in
theorem met_J1_init_r18 (l : Launch) (G : GP) (d : Nat) {post : HS → Prop} {y0 : HS} {a0 : Nat} (hw : wp_J1_init_r18 G post y0 a0) : vx_Met l yJ1_init (ws_ yJ1_init cJ1_init 1 none) (rmB (d + 2) 0) (hPc G y0 [va_rf (some a0)]) (hQv G y0 post) (hX G y0 (fun _ _ _ => False)) 0 (20 * 0) (HA y0) := by
  unfold wp_J1_init_r18 at hw
  refine hv_met (own := RJ1) (by decide) rfl (Nat.le_of_ble_eq_true rfl) ?_
  intro p e s m args below meth c ls E hr hlocks hnm hE hK hI hl
  replace hl : lv_has ls 1 [(0, va_rf (some a0))] := hl
  refine hv_aload_n (r := some a0) E.1 E.2.1 dJ1_init_0 rfl (lv_at hl 0 rfl) ?_
  have hq := hw
  clear hw
  refine hv_callv (u := 0) (B1 := 0) hI (vx_runI (b := a0) (As := []) (rest := []) E (met_J0_init_r18 l G (d) hq) (cwI 0 E.2.2.2.2 (lw_meth q212) rfl rfl rfl (E.2.2.2.2 _ q122) (E.2.2.2.2 _ q210) (E.2.2.2.2 _ q211) rfl hs_J0_init_r18 (rm_ok (by omega) (by decide))) (hv_preS hK hI) rfl rfl hl.1 rfl (lv_room (by first | rfl | decide | (simp [va_rf_cat, int_cat, long_cat]; done) | (simp [va_rf_cat, int_cat, long_cat]; decide))) dJ1_init_1 (hv_fit (by first | exact (Nat.le_refl 0) | omega))) (fun _ _ _ _ _ h => h.elim) (fun y1 H locs hw hI => ?_)
  refine hv_aload_n (r := some a0) E.1 E.2.1 dJ1_init_4 rfl (lv_at hl 0 rfl) ?_
  refine lv_iconst (v := nI 0) E.1 E.2.1 dJ1_init_5 rfl ?_
  obtain ⟨fs3, hfs, hln, hw⟩ := hw
  refine hv_put (v := .int (nI 0)) E hK hI ciJ2 0 (Nat.le_of_ble_eq_true rfl) q218 (fun _ h => h) rfl rfl rfl hfs hln dJ1_init_6 (fun H locs hI => ?_)
  obtain ⟨y2, ey2⟩ : ∃ w, w = hput y1 a0 (ob 18 (fs3.set 0 (.int (nI 0)))) := ⟨_, rfl⟩
  rw [← ey2] at hI
  replace hw := hw y2 ey2
  exact hv_vret E hr hlocks hI (Nat.le_refl 0) hw dJ1_init_9
/-- java/util/ArrayList.<init>()V -/
def wp_J2_init (G : GP) (post : HS → Prop) (y0 : HS) (a0 : Nat) : Prop := wp_J1_init_r18 G (fun y1 => ∃ fs3, y1.1 a0 = some (ob 18 fs3) ∧ 1 < fs3.length ∧ ∀ y2, y2 = hput y1 a0 (ob 18 (fs3.set 1 (va_rf (some (gE G 0))))) → post y2) y0 a0
theorem hs_J2_init : yJ2_init.cls ≠ "java/lang/invoke/MethodHandle" ∧ yJ2_init.cls ≠ "java/lang/invoke/VarHandle" ∧ (parseMethodDescriptor yJ2_init.desc).map (fun d => d.parameters.length) = some 0 := by decide +kernel
set_option maxHeartbeats 4000000 in
theorem met_J2_init (l : Launch) (G : GP) (d : Nat) {post : HS → Prop} {y0 : HS} {a0 : Nat} (hw : wp_J2_init G post y0 a0) : vx_Met l yJ2_init (ws_ yJ2_init cJ2_init 1 none) (rmB (d + 3) 0) (hPc G y0 [va_rf (some a0)]) (hQv G y0 post) (hX G y0 (fun _ _ _ => False)) 0 (20 * 0) (HA y0) := by
  unfold wp_J2_init at hw
  refine hv_met (own := RJ2) (by decide) rfl (Nat.le_of_ble_eq_true rfl) ?_
  intro p e s m args below meth c ls E hr hlocks hnm hE hK hI hl
  replace hl : lv_has ls 1 [(0, va_rf (some a0))] := hl
  refine hv_aload_n (r := some a0) E.1 E.2.1 dJ2_init_0 rfl (lv_at hl 0 rfl) ?_
  have hq := hw
  clear hw
  refine hv_callv (u := 0) (B1 := 0) hI (vx_runI (b := a0) (As := []) (rest := []) E (met_J1_init_r18 l G (d) hq) (cwI 0 E.2.2.2.2 (lw_meth q209) rfl rfl rfl (E.2.2.2.2 _ q123) (E.2.2.2.2 _ q207) (E.2.2.2.2 _ q208) rfl hs_J1_init_r18 (rm_ok (by omega) (by decide))) (hv_preS hK hI) rfl rfl hl.1 rfl (lv_room (by first | rfl | decide | (simp [va_rf_cat, int_cat, long_cat]; done) | (simp [va_rf_cat, int_cat, long_cat]; decide))) dJ2_init_1 (hv_fit (by first | exact (Nat.le_refl 0) | omega))) (fun _ _ _ _ _ h => h.elim) (fun y1 H locs hw hI => ?_)
  refine hv_aload_n (r := some a0) E.1 E.2.1 dJ2_init_4 rfl (lv_at hl 0 rfl) ?_
  refine hv_gets (v := va_rf (some (gE G 0))) E hK hI 2 rfl q214 (fun _ h => h) dJ2_init_5 ?_
  obtain ⟨fs3, hfs, hln, hw⟩ := hw
  refine hv_put (v := va_rf (some (gE G 0))) E hK hI ciJ2 1 (Nat.le_of_ble_eq_true rfl) q216 (fun _ h => h) rfl (rf_nar _ _ rfl) (rf_fit _ _ rfl) hfs hln dJ2_init_8 (fun H locs hI => ?_)
  obtain ⟨y2, ey2⟩ : ∃ w, w = hput y1 a0 (ob 18 (fs3.set 1 (va_rf (some (gE G 0))))) := ⟨_, rfl⟩
  rw [← ey2] at hI
  replace hw := hw y2 ey2
  exact hv_vret E hr hlocks hI (Nat.le_refl 0) hw dJ2_init_11
/-- java/util/ArrayList.size()I -/
def wp_J2_size (G : GP) (post : Int32 → HS → Prop) (y0 : HS) (a0 : Nat) : Prop := ∃ f1, fI y0 a0 18 2 f1 ∧ post f1 y0
theorem hs_J2_size : yJ2_size.cls ≠ "java/lang/invoke/MethodHandle" ∧ yJ2_size.cls ≠ "java/lang/invoke/VarHandle" ∧ (parseMethodDescriptor yJ2_size.desc).map (fun d => d.parameters.length) = some 0 := by decide +kernel
theorem hd_J2_size : yJ2_size.cls = RJ2 ∧ yJ2_size.cls ≠ "java/lang/invoke/MethodHandle" ∧ yJ2_size.cls ≠ "java/lang/invoke/VarHandle" ∧ (parseMethodDescriptor yJ2_size.desc).map (fun d => d.parameters.length) = some 0 := by decide +kernel
set_option maxHeartbeats 4000000 in
theorem met_J2_size (l : Launch) (G : GP) (d : Nat) {post : Int32 → HS → Prop} {y0 : HS} {a0 : Nat} (hw : wp_J2_size G post y0 a0) : vx_Met l yJ2_size (ws_ yJ2_size cJ2_size 1 (some .int)) (rmB (d + 0) 0) (hPc G y0 [va_rf (some a0)]) (hQi G y0 post) (hX G y0 (fun _ _ _ => False)) 0 (20 * 0) (HA y0) := by
  unfold wp_J2_size at hw
  refine hv_met (own := RJ2) (by decide) rfl (Nat.le_of_ble_eq_true rfl) ?_
  intro p e s m args below meth c ls E hr hlocks hnm hE hK hI hl
  replace hl : lv_has ls 1 [(0, va_rf (some a0))] := hl
  refine hv_aload_n (r := some a0) E.1 E.2.1 dJ2_size_0 rfl (lv_at hl 0 rfl) ?_
  obtain ⟨f1, ⟨fs, hfs, hfk⟩, hw⟩ := hw
  refine hv_get (v := .int f1) E hK hI ciJ2 2 (Nat.le_of_ble_eq_true rfl) q217 (fun _ h => h) (Or.inl hfs) hfk dJ2_size_1 ?_
  exact hv_ireti E hr hlocks hI (Nat.le_refl 0) hw dJ2_size_4
/-- jdk/internal/util/Preconditions.checkIndex(IILjava/util/function/BiFunction;)I -/
def wp_J11_checkIndex (G : GP) (post : Int32 → HS → Prop) (y0 : HS) (i0 : Int32) (i1 : Int32) (p2 : Option Nat) : Prop := ∃ J1 : HS → Prop, (∀ (y3 : HS), J1 y3  → False) ∧ ((i0 < 0 → J1 y0 ) ∧ (¬ i0 < 0 → (i0 < i1 → post i0 y0) ∧ (¬ i0 < i1 → J1 y0 )))
theorem hs_J11_checkIndex : yJ11_checkIndex.cls ≠ "java/lang/invoke/MethodHandle" ∧ yJ11_checkIndex.cls ≠ "java/lang/invoke/VarHandle" ∧ (parseMethodDescriptor yJ11_checkIndex.desc).map (fun d => d.parameters.length) = some 3 := by decide +kernel
set_option maxHeartbeats 4000000 in
theorem met_J11_checkIndex (l : Launch) (G : GP) (d : Nat) {post : Int32 → HS → Prop} {y0 : HS} {i0 : Int32} {i1 : Int32} {p2 : Option Nat} (hw : wp_J11_checkIndex G post y0 i0 i1 p2) : vx_Met l yJ11_checkIndex (ws_ yJ11_checkIndex cJ11_checkIndex 3 (some .int)) (rmB (d + 0) 0) (hPc G y0 [.int (i0), .int (i1), va_rf p2]) (hQi G y0 post) (hX G y0 (fun _ _ _ => False)) 0 (20 * 0) (HA y0) := by
  unfold wp_J11_checkIndex at hw
  refine hv_met (own := RJ11) (by decide) rfl (by simp [lg_sl, va_rf_cat, int_cat, long_cat]) ?_
  intro p e s m args below meth c ls E hr hlocks hnm hE hK hI hl
  replace hl : lv_has ls 3 [(0, .int (i0)), (1, .int (i1)), (2, va_rf p2)] := by simpa [lv_args, va_rf_cat, int_cat, long_cat] using hl
  obtain ⟨J1, hj6, hw⟩ := hw
  have jh2 : ∀ (y3 : HS), J1 y3  → ∀ (H : Heap) (locs : List Loc) (ls : Array Slot), HI G y0 y3 s H locs → lv_has ls 3 [(0, .int (i0)), (1, .int (i1)), (2, va_rf p2)] → W p l e (rmB (d + 0) 0) s m args below meth c H locs 0 (20 * 0) (vx_MQ below (hQi G y0 post) (hX G y0 (fun _ _ _ => False)) args s 0 (20 * 0) (HA y0)) (F0 m 9 ls []) := by
    intro y3 hw H locs ls hI hl
    replace hw := hj6 y3 hw
    refine hv_aload_n (r := p2) E.1 E.2.1 dJ11_checkIndex_9 rfl (lv_at hl 2 rfl) ?_
    refine lv_iload_n E.1 E.2.1 dJ11_checkIndex_10 rfl (lv_at hl 0 rfl) ?_
    refine lv_iload_n E.1 E.2.1 dJ11_checkIndex_11 rfl (lv_at hl 1 rfl) ?_
    exact hw.elim
  refine lv_iload_n E.1 E.2.1 dJ11_checkIndex_0 rfl (lv_at hl 0 rfl) ?_
  refine lv_if_lt (tgt := 9) E.1 E.2.1 dJ11_checkIndex_1 (by decide) (fun c4 => ?_) (fun c4 => ?_)
  · replace hw := hw.1 (c4)
    exact jh2 _ hw _ _ _ hI (lv_sub hl [0, 1, 2] rfl)
  · replace hw := hw.2 (c4)
    refine lv_iload_n E.1 E.2.1 dJ11_checkIndex_4 rfl (lv_at hl 0 rfl) ?_
    refine lv_iload_n E.1 E.2.1 dJ11_checkIndex_5 rfl (lv_at hl 1 rfl) ?_
    refine lv_icmp_lt (tgt := 16) E.1 E.2.1 dJ11_checkIndex_6 (by decide) (fun c5 => ?_) (fun c5 => ?_)
    · replace hw := hw.1 (c5)
      refine lv_iload_n E.1 E.2.1 dJ11_checkIndex_16 rfl (lv_at hl 0 rfl) ?_
      exact hv_ireti E hr hlocks hI (Nat.le_refl 0) hw dJ11_checkIndex_17
    · replace hw := hw.2 (c5)
      exact jh2 _ hw _ _ _ hI (lv_sub hl [0, 1, 2] rfl)
/-- java/util/Objects.checkIndex(II)I -/
def wp_J17_checkIndex (G : GP) (post : Int32 → HS → Prop) (y0 : HS) (i0 : Int32) (i1 : Int32) : Prop := wp_J11_checkIndex G (fun x2 y1 => post x2 y1) y0 i0 i1 none
theorem hs_J17_checkIndex : yJ17_checkIndex.cls ≠ "java/lang/invoke/MethodHandle" ∧ yJ17_checkIndex.cls ≠ "java/lang/invoke/VarHandle" ∧ (parseMethodDescriptor yJ17_checkIndex.desc).map (fun d => d.parameters.length) = some 2 := by decide +kernel
set_option maxHeartbeats 4000000 in
theorem met_J17_checkIndex (l : Launch) (G : GP) (d : Nat) {post : Int32 → HS → Prop} {y0 : HS} {i0 : Int32} {i1 : Int32} (hw : wp_J17_checkIndex G post y0 i0 i1) : vx_Met l yJ17_checkIndex (ws_ yJ17_checkIndex cJ17_checkIndex 2 (some .int)) (rmB (d + 1) 0) (hPc G y0 [.int (i0), .int (i1)]) (hQi G y0 post) (hX G y0 (fun _ _ _ => False)) 0 (20 * 0) (HA y0) := by
  unfold wp_J17_checkIndex at hw
  refine hv_met (own := RJ17) (by decide) rfl (Nat.le_of_ble_eq_true rfl) ?_
  intro p e s m args below meth c ls E hr hlocks hnm hE hK hI hl
  replace hl : lv_has ls 2 [(0, .int (i0)), (1, .int (i1))] := hl
  refine lv_iload_n E.1 E.2.1 dJ17_checkIndex_0 rfl (lv_at hl 0 rfl) ?_
  refine lv_iload_n E.1 E.2.1 dJ17_checkIndex_1 rfl (lv_at hl 1 rfl) ?_
  refine lv_null E.1 E.2.1 dJ17_checkIndex_2 ?_
  have hq := hw
  clear hw
  refine hv_calli (u := 0) (B1 := 0) hI (vx_runS (As := [.int (i0), .int (i1), va_rf none]) (rest := []) E (met_J11_checkIndex l G (d) hq) (va_cwS 3 E.2.2.2.2 (lw_S q791 q467 q139 q468) rfl rfl rfl hs_J11_checkIndex (rm_ok (by omega) (by decide))) (hv_preS hK hI) rfl rfl hl.1 rfl (lv_room (by first | rfl | decide | (simp [va_rf_cat, int_cat, long_cat]; done) | (simp [va_rf_cat, int_cat, long_cat]; decide))) dJ17_checkIndex_3 (hv_fit (by first | exact (Nat.le_refl 0) | omega))) (fun _ _ _ _ _ h => h.elim) (fun x2 y1 H locs hw hI => ?_)
  exact hv_ireti E hr hlocks hI (Nat.le_refl 0) hw dJ17_checkIndex_6
/-- java/util/ArrayList.elementData(I)Ljava/lang/Object; -/
def wp_J2_elementData (G : GP) (post : Option Nat → HS → Prop) (y0 : HS) (a0 : Nat) (i1 : Int32) : Prop := ∃ f1, fR y0 a0 18 1 f1 ∧ ∃ a2, f1 = some a2 ∧ ∃ (n3 : Nat) (g4 : Nat → Option Nat), rd G y0 a2 (ar 6 n3 g4) ∧ vp_in i1 n3 ∧ post (g4 i1.toNatClampNeg) y0
theorem hs_J2_elementData : yJ2_elementData.cls ≠ "java/lang/invoke/MethodHandle" ∧ yJ2_elementData.cls ≠ "java/lang/invoke/VarHandle" ∧ (parseMethodDescriptor yJ2_elementData.desc).map (fun d => d.parameters.length) = some 1 := by decide +kernel
theorem hd_J2_elementData : yJ2_elementData.cls = RJ2 ∧ yJ2_elementData.cls ≠ "java/lang/invoke/MethodHandle" ∧ yJ2_elementData.cls ≠ "java/lang/invoke/VarHandle" ∧ (parseMethodDescriptor yJ2_elementData.desc).map (fun d => d.parameters.length) = some 1 := by decide +kernel
set_option maxHeartbeats 4000000 in
theorem met_J2_elementData (l : Launch) (G : GP) (d : Nat) {post : Option Nat → HS → Prop} {y0 : HS} {a0 : Nat} {i1 : Int32} (hw : wp_J2_elementData G post y0 a0 i1) : vx_Met l yJ2_elementData (ws_ yJ2_elementData cJ2_elementData 2 (some (.object "java/lang/Object"))) (rmB (d + 0) 0) (hPc G y0 [va_rf (some a0), .int (i1)]) (hQq G y0 post) (hX G y0 (fun _ _ _ => False)) 0 (20 * 0) (HA y0) := by
  unfold wp_J2_elementData at hw
  refine hv_met (own := RJ2) (by decide) rfl (Nat.le_of_ble_eq_true rfl) ?_
  intro p e s m args below meth c ls E hr hlocks hnm hE hK hI hl
  replace hl : lv_has ls 2 [(0, va_rf (some a0)), (1, .int (i1))] := hl
  refine hv_aload_n (r := some a0) E.1 E.2.1 dJ2_elementData_0 rfl (lv_at hl 0 rfl) ?_
  obtain ⟨f1, ⟨fs, hfs, hfk⟩, hw⟩ := hw
  refine hv_get (v := va_rf f1) E hK hI ciJ2 1 (Nat.le_of_ble_eq_true rfl) q216 (fun _ h => h) (Or.inl hfs) hfk dJ2_elementData_1 ?_
  refine lv_iload_n E.1 E.2.1 dJ2_elementData_4 rfl (lv_at hl 1 rfl) ?_
  obtain ⟨a2, ea2, hw⟩ := hw
  revert hl hw; subst ea2; intro hl hw
  obtain ⟨n3, g4, hra, hin, hw⟩ := hw
  refine hv_aald E hK hI hra rfl rfl hin dJ2_elementData_5 ?_
  exact hv_aret (r := g4 i1.toNatClampNeg) E hr (Or.inl ⟨_, rfl⟩) hlocks hI (Nat.le_refl 0) hw dJ2_elementData_6
/-- java/util/ArrayList.get(I)Ljava/lang/Object; -/
def wp_J2_get (G : GP) (post : Option Nat → HS → Prop) (y0 : HS) (a0 : Nat) (i1 : Int32) : Prop := ∃ f1, fI y0 a0 18 2 f1 ∧ wp_J17_checkIndex G (fun x3 y2 => (∃ fs6, rd G y2 a0 (ob 18 fs6)) ∧ wp_J2_elementData G (fun r5 y4 => post r5 y4) y2 a0 i1) y0 i1 f1
theorem hs_J2_get : yJ2_get.cls ≠ "java/lang/invoke/MethodHandle" ∧ yJ2_get.cls ≠ "java/lang/invoke/VarHandle" ∧ (parseMethodDescriptor yJ2_get.desc).map (fun d => d.parameters.length) = some 1 := by decide +kernel
theorem hd_J2_get : yJ2_get.cls = RJ2 ∧ yJ2_get.cls ≠ "java/lang/invoke/MethodHandle" ∧ yJ2_get.cls ≠ "java/lang/invoke/VarHandle" ∧ (parseMethodDescriptor yJ2_get.desc).map (fun d => d.parameters.length) = some 1 := by decide +kernel
set_option maxHeartbeats 4000000 in
theorem met_J2_get (l : Launch) (G : GP) (d : Nat) {post : Option Nat → HS → Prop} {y0 : HS} {a0 : Nat} {i1 : Int32} (hw : wp_J2_get G post y0 a0 i1) : vx_Met l yJ2_get (ws_ yJ2_get cJ2_get 2 (some (.object "java/lang/Object"))) (rmB (d + 2) 0) (hPc G y0 [va_rf (some a0), .int (i1)]) (hQq G y0 post) (hX G y0 (fun _ _ _ => False)) 0 (20 * 0) (HA y0) := by
  unfold wp_J2_get at hw
  refine hv_met (own := RJ2) (by decide) rfl (Nat.le_of_ble_eq_true rfl) ?_
  intro p e s m args below meth c ls E hr hlocks hnm hE hK hI hl
  replace hl : lv_has ls 2 [(0, va_rf (some a0)), (1, .int (i1))] := hl
  refine lv_iload_n E.1 E.2.1 dJ2_get_0 rfl (lv_at hl 1 rfl) ?_
  refine hv_aload_n (r := some a0) E.1 E.2.1 dJ2_get_1 rfl (lv_at hl 0 rfl) ?_
  obtain ⟨f1, ⟨fs, hfs, hfk⟩, hw⟩ := hw
  refine hv_get (v := .int f1) E hK hI ciJ2 2 (Nat.le_of_ble_eq_true rfl) q217 (fun _ h => h) (Or.inl hfs) hfk dJ2_get_2 ?_
  have hq := hw
  clear hw
  refine hv_calli (u := 0) (B1 := 0) hI (vx_runS (As := [.int (i1), .int (f1)]) (rest := []) E (met_J17_checkIndex l G (d) hq) (va_cwS 2 E.2.2.2.2 (lw_S q788 q789 q149 q790) rfl rfl rfl hs_J17_checkIndex (rm_ok (by omega) (by decide))) (hv_preS hK hI) rfl rfl hl.1 rfl (lv_room (by first | rfl | decide | (simp [va_rf_cat, int_cat, long_cat]; done) | (simp [va_rf_cat, int_cat, long_cat]; decide))) dJ2_get_5 (hv_fit (by first | exact (Nat.le_refl 0) | omega))) (fun _ _ _ _ _ h => h.elim) (fun x3 y2 H locs hw hI => ?_)
  refine lv_pop E.1 E.2.1 dJ2_get_8 rfl ?_
  refine hv_aload_n (r := some a0) E.1 E.2.1 dJ2_get_9 rfl (lv_at hl 0 rfl) ?_
  refine lv_iload_n E.1 E.2.1 dJ2_get_10 rfl (lv_at hl 1 rfl) ?_
  obtain ⟨⟨fs6, hrv⟩, hw⟩ := hw
  have hq := hw
  clear hw
  refine hv_callq (u := 0) (B1 := 0) hI (vx_runV (As := [.int (i1)]) (rest := []) E (met_J2_elementData l G (d + 1) hq) (cwV 1 E.2.2.2.2 (lw_V q792 q793 q794 q124 q795) rfl rfl rfl hd_J2_elementData (rm_ok (by omega) (by decide))) (hv_preV hK hI hrv rfl) rfl rfl hl.1 rfl (lv_room (by first | rfl | decide | (simp [va_rf_cat, int_cat, long_cat]; done) | (simp [va_rf_cat, int_cat, long_cat]; decide))) dJ2_get_11 (hv_fit (by first | exact (Nat.le_refl 0) | omega))) (fun _ _ _ _ _ h => h.elim) (fun r5 y4 H locs hw hI => ?_)
  exact hv_aret (r := r5) E hr (Or.inl ⟨_, rfl⟩) hlocks hI (Nat.le_refl 0) hw dJ2_get_14
/-- jdk/internal/util/ArraysSupport.newLength(III)I -/
def wp_J7_newLength (G : GP) (post : Int32 → HS → Prop) (y0 : HS) (i0 : Int32) (i1 : Int32) (i2 : Int32) : Prop := ∃ J1 : HS → Prop, (∀ (y3 : HS), J1 y3  → False) ∧ (∀ x4, x4 = i0 + ((if i1 < i2 then i2 else i1)) → (x4 ≤ (nI 0) → J1 y0 ) ∧ (¬ x4 ≤ (nI 0) → (((2147483639)) < x4 → J1 y0 ) ∧ (¬ ((2147483639)) < x4 → post x4 y0)))
theorem hs_J7_newLength : yJ7_newLength.cls ≠ "java/lang/invoke/MethodHandle" ∧ yJ7_newLength.cls ≠ "java/lang/invoke/VarHandle" ∧ (parseMethodDescriptor yJ7_newLength.desc).map (fun d => d.parameters.length) = some 3 := by decide +kernel
set_option maxHeartbeats 4000000 in
theorem met_J7_newLength (l : Launch) (G : GP) (d : Nat) {post : Int32 → HS → Prop} {y0 : HS} {i0 : Int32} {i1 : Int32} {i2 : Int32} (hw : wp_J7_newLength G post y0 i0 i1 i2) : vx_Met l yJ7_newLength (ws_ yJ7_newLength cJ7_newLength 4 (some .int)) (rmB (d + 1) 0) (hPc G y0 [.int (i0), .int (i1), .int (i2)]) (hQi G y0 post) (hX G y0 (fun _ _ _ => False)) 0 (20 * 0) (HA y0) := by
  unfold wp_J7_newLength at hw
  refine hv_met (own := RJ7) (by decide) rfl (Nat.le_of_ble_eq_true rfl) ?_
  intro p e s m args below meth c ls E hr hlocks hnm hE hK hI hl
  replace hl : lv_has ls 4 [(0, .int (i0)), (1, .int (i1)), (2, .int (i2))] := hl
  obtain ⟨J1, hj7, hw⟩ := hw
  have jh2 : ∀ (y3 : HS), J1 y3  → ∀ (H : Heap) (locs : List Loc) (ls : Array Slot), HI G y0 y3 s H locs → lv_has ls 4 [(0, .int (i0)), (1, .int (i1))] → W p l e (rmB (d + 1) 0) s m args below meth c H locs 0 (20 * 0) (vx_MQ below (hQi G y0 post) (hX G y0 (fun _ _ _ => False)) args s 0 (20 * 0) (HA y0)) (F0 m 21 ls []) := by
    intro y3 hw H locs ls hI hl
    replace hw := hj7 y3 hw
    refine lv_iload_n E.1 E.2.1 dJ7_newLength_21 rfl (lv_at hl 0 rfl) ?_
    refine lv_iload_n E.1 E.2.1 dJ7_newLength_22 rfl (lv_at hl 1 rfl) ?_
    exact hw.elim
  refine lv_iload_n E.1 E.2.1 dJ7_newLength_0 rfl (lv_at hl 0 rfl) ?_
  refine lv_iload_n E.1 E.2.1 dJ7_newLength_1 rfl (lv_at hl 1 rfl) ?_
  refine lv_iload_n E.1 E.2.1 dJ7_newLength_2 rfl (lv_at hl 2 rfl) ?_
  refine va_mmax (rest := [.int (i0)]) E.1 E.2.1 (by rw [E.2.2.1]; exact hl.1.symm) E.2.2.2.1 (E.2.2.2.2 _ q392) (E.2.2.2.2 _ q393) (E.2.2.2.2 _ q135) (E.2.2.2.2 _ q394) (mm_fr _) (mm_lo _ (by first | exact Nat.zero_le _ | decide | (simp [va_rf_cat, int_cat, long_cat]; done) | (simp [va_rf_cat, int_cat, long_cat]; decide))) (by first | exact hu | exact Nat.le_refl 0) (mm_sl (by first | exact hu | exact Nat.le_refl 0)) dJ7_newLength_3 ?_
  refine lv_iadd E.1 E.2.1 dJ7_newLength_6 ?_
  refine lv_topi (fun x4 ex4 => ?_)
  replace hw := hw x4 ex4
  refine lv_istore_n (lv' := [(3, .int (x4)), (0, .int (i0)), (1, .int (i1)), (2, .int (i2))]) E.1 E.2.1 dJ7_newLength_7 rfl hl (Nat.le_of_ble_eq_true rfl) rfl (fun ls hl => ?_)
  refine lv_iconst (v := nI 0) E.1 E.2.1 dJ7_newLength_8 rfl ?_
  refine lv_iload_n E.1 E.2.1 dJ7_newLength_9 rfl (lv_at hl 0 rfl) ?_
  refine lv_icmp_ge (tgt := 21) E.1 E.2.1 dJ7_newLength_10 (by decide) (fun c5 => ?_) (fun c5 => ?_)
  · replace hw := hw.1 (c5)
    exact jh2 _ hw _ _ _ hI (lv_sub hl [1, 2] rfl)
  · replace hw := hw.2 (c5)
    refine lv_iload_n E.1 E.2.1 dJ7_newLength_13 rfl (lv_at hl 0 rfl) ?_
    refine lv_ldc (v := (2147483639)) E.1 E.2.1 E.2.2.2.1 (E.2.2.2.2 _ q395) dJ7_newLength_14 ?_
    refine lv_icmp_gt (tgt := 21) E.1 E.2.1 dJ7_newLength_16 (by decide) (fun c6 => ?_) (fun c6 => ?_)
    · replace hw := hw.1 (c6)
      exact jh2 _ hw _ _ _ hI (lv_sub hl [1, 2] rfl)
    · replace hw := hw.2 (c6)
      refine lv_iload_n E.1 E.2.1 dJ7_newLength_19 rfl (lv_at hl 0 rfl) ?_
      exact hv_ireti E hr hlocks hI (Nat.le_refl 0) hw dJ7_newLength_20
/-- java/util/Arrays.copyOf([Ljava/lang/Object;ILjava/lang/Class;)[Ljava/lang/Object; -/
def wp_J9_copyOf_3 (G : GP) (B : Nat) (post : Option Nat → HS → Prop) (y0 : HS) (p0 : Option Nat) (i1 : Int32) (p2 : Option Nat) : Prop := (¬ p2 = (some (gE G 3)) → False) ∧ (p2 = (some (gE G 3)) → ∃ n4, i1 = nI n4 ∧ n4 < 2 ^ 20 ∧ 0 + (1 + n4 / 20) ≤ B ∧ ∀ a3, a3 = y0.2 → ∀ y2, y2 = hnew y0 (ar 6 n4 (fun _ => none)) → ∃ a5, p0 = some a5 ∧ ∃ (n6 : Nat) (g7 : Nat → Option Nat), rd G y2 a5 (ar 6 n6 g7) ∧ ∃ (n8 n9 k12 k13 k14 : Nat) (g10 g11 : Nat → Option Nat), ((if i1 < (nI n6) then i1 else (nI n6)) = nI k12 ∧ nI 0 = nI k13 ∧ nI 0 = nI k14) ∧ y2.1 a5 = some (ar 6 n8 g10) ∧ y2.1 a3 = some (ar 6 n9 g11) ∧ k14 + k12 ≤ n8 ∧ k13 + k12 ≤ n9 ∧ n8 < 2 ^ 20 ∧ n9 < 2 ^ 20 ∧ (∀ i, i < k12 → okO G y2 (g10 (k14 + i))) ∧ ∀ y15, y15 = hput y2 a3 (ar 6 n9 (va_cpy g10 g11 k14 k13 k12)) → post (some a3) y15)
theorem hs_J9_copyOf_3 : yJ9_copyOf_3.cls ≠ "java/lang/invoke/MethodHandle" ∧ yJ9_copyOf_3.cls ≠ "java/lang/invoke/VarHandle" ∧ (parseMethodDescriptor yJ9_copyOf_3.desc).map (fun d => d.parameters.length) = some 3 := by decide +kernel
set_option maxHeartbeats 4000000 in
theorem met_J9_copyOf_3 (l : Launch) (G : GP) (d : Nat) {B : Nat} {post : Option Nat → HS → Prop} {y0 : HS} {p0 : Option Nat} {i1 : Int32} {p2 : Option Nat} (hw : wp_J9_copyOf_3 G B post y0 p0 i1 p2) : vx_Met l yJ9_copyOf_3 (ws_ yJ9_copyOf_3 cJ9_copyOf_3 4 (some (.array (.object "java/lang/Object")))) (rmB (d + 1) B) (hPc G y0 [va_rf p0, .int (i1), va_rf p2]) (hQq G y0 post) (hX G y0 (fun _ _ _ => False)) B (20 * B) (HA y0) := by
  unfold wp_J9_copyOf_3 at hw
  refine hv_met (own := RJ9) (by decide) rfl (by simp [lg_sl, va_rf_cat, int_cat, long_cat]) ?_
  intro p e s m args below meth c ls E hr hlocks hnm hE hK hI hl
  replace hl : lv_has ls 4 [(0, va_rf p0), (1, .int (i1)), (2, va_rf p2)] := by simpa [lv_args, va_rf_cat, int_cat, long_cat] using hl
  have hu : 0 ≤ B := Nat.zero_le _
  refine hv_aload_n (r := p2) E.1 E.2.1 dJ9_copyOf_3_0 rfl (lv_at hl 2 rfl) ?_
  refine hv_ldcM E hK q964 dJ9_copyOf_3_1 ?_
  refine lv_acmp_ne (rx := p2) (ry := some (gE G 3)) (tgt := 13) E.1 E.2.1 dJ9_copyOf_3_3 (by decide) (fun c1 => ?_) (fun c1 => ?_)
  · replace hw := hw.1 (c1)
    refine hv_aload_n (r := p2) E.1 E.2.1 dJ9_copyOf_3_13 rfl (lv_at hl 2 rfl) ?_
    exact hw.elim
  · replace hw := hw.2 (c1)
    refine lv_iload_n E.1 E.2.1 dJ9_copyOf_3_6 rfl (lv_at hl 1 rfl) ?_
    obtain ⟨n4, eN, hN, hw⟩ := hw
    obtain ⟨hu, hw⟩ := hw
    refine hv_anew6 (N := n4) E hK hI q966 eN hN hu dJ9_copyOf_3_7 (fun H hI => ?_)
    obtain ⟨a3, ea3⟩ : ∃ w, w = y0.2 := ⟨_, rfl⟩
    obtain ⟨y2, ey2⟩ : ∃ w, w = hnew y0 (ar 6 n4 (fun _ => none)) := ⟨_, rfl⟩
    rw [← ea3]
    rw [← ey2] at hI
    replace hw := hw a3 ea3 y2 ey2
    refine lv_goto (tgt := 24) E.1 E.2.1 dJ9_copyOf_3_10 (by decide) ?_
    refine hv_astore_n (r := some a3) (lv' := [(3, va_rf (some a3)), (0, va_rf p0), (1, .int (i1)), (2, va_rf p2)]) E.1 E.2.1 dJ9_copyOf_3_24 rfl hl (Nat.le_of_ble_eq_true rfl) (by first | rfl | decide | (simp [va_rf_cat, int_cat, long_cat]; done) | (simp [va_rf_cat, int_cat, long_cat]; decide)) (fun ls hl => ?_)
    refine hv_aload_n (r := p0) E.1 E.2.1 dJ9_copyOf_3_25 rfl (lv_at hl 1 rfl) ?_
    refine lv_iconst (v := nI 0) E.1 E.2.1 dJ9_copyOf_3_26 rfl ?_
    refine hv_aload_n (r := some a3) E.1 E.2.1 dJ9_copyOf_3_27 rfl (lv_at hl 0 rfl) ?_
    refine lv_iconst (v := nI 0) E.1 E.2.1 dJ9_copyOf_3_28 rfl ?_
    refine hv_aload_n (r := p0) E.1 E.2.1 dJ9_copyOf_3_29 rfl (lv_at hl 1 rfl) ?_
    obtain ⟨a5, ea5, hw⟩ := hw
    revert hl hw; subst ea5; intro hl hw
    obtain ⟨n6, g7, hra, hw⟩ := hw
    refine hv_alen (t := 6) E hK hI hra rfl dJ9_copyOf_3_30 ?_
    refine lv_iload_n E.1 E.2.1 dJ9_copyOf_3_31 rfl (lv_at hl 2 rfl) ?_
    refine va_mmin (rest := [.int (nI 0), va_rf (some a3), .int (nI 0), va_rf (some a5)]) E.1 E.2.1 (by rw [E.2.2.1]; exact hl.1.symm) E.2.2.2.1 (E.2.2.2.2 _ q410) (E.2.2.2.2 _ q411) (E.2.2.2.2 _ q135) (E.2.2.2.2 _ q412) (mm_fr _) (mm_lo _ (by first | exact Nat.zero_le _ | decide | (simp [va_rf_cat, int_cat, long_cat]; done) | (simp [va_rf_cat, int_cat, long_cat]; decide))) (by first | exact hu | exact Nat.le_refl 0) (mm_sl (by first | exact hu | exact Nat.le_refl 0)) dJ9_copyOf_3_32 ?_
    obtain ⟨n8, n9, k12, k13, k14, g10, g11, ⟨e3, e4, e5⟩, h1, h2, h3, h4, h5, h6, h7, hw⟩ := hw
    refine W.eq (g2 := F0 m 35 ls (.int (nI k12) :: .int (nI k13) :: va_rf (some a3) :: .int (nI k14) :: va_rf (some a5) :: [])) (by first | rw [← e3, ← e4, ← e5] | rw [e3, e4, e5]) ?_
    refine hv_copyq E hK hI q413 q415 q414 q137 hl.1 h1 h2 h3 h4 h5 h6 h7 (by first | rfl | decide | (simp [va_rf_cat, int_cat, long_cat]; done) | (simp [va_rf_cat, int_cat, long_cat]; decide)) dJ9_copyOf_3_35 (fun H locs hI => ?_)
    obtain ⟨y15, ey15⟩ : ∃ w, w = hput y2 a3 (ar 6 n9 (va_cpy g10 g11 k14 k13 k12)) := ⟨_, rfl⟩
    rw [← ey15] at hI
    replace hw := hw y15 ey15
    refine hv_aload_n (r := some a3) E.1 E.2.1 dJ9_copyOf_3_38 rfl (lv_at hl 0 rfl) ?_
    exact hv_aret (r := some a3) E hr (Or.inr ⟨_, rfl⟩) hlocks hI hu hw dJ9_copyOf_3_39
/-- java/util/Arrays.copyOf([Ljava/lang/Object;I)[Ljava/lang/Object; -/
def wp_J9_copyOf_2 (G : GP) (B : Nat) (post : Option Nat → HS → Prop) (y0 : HS) (p0 : Option Nat) (i1 : Int32) : Prop := ∃ a1, p0 = some a1 ∧ ∃ (n2 : Nat) (g3 : Nat → Option Nat), rd G y0 a1 (ar 6 n2 g3) ∧ ∃ k6, 0 + k6 ≤ B ∧ wp_J9_copyOf_3 G k6 (fun r5 y4 => post r5 y4) y0 (some a1) i1 (some (gE G 3))
theorem hs_J9_copyOf_2 : yJ9_copyOf_2.cls ≠ "java/lang/invoke/MethodHandle" ∧ yJ9_copyOf_2.cls ≠ "java/lang/invoke/VarHandle" ∧ (parseMethodDescriptor yJ9_copyOf_2.desc).map (fun d => d.parameters.length) = some 2 := by decide +kernel
set_option maxHeartbeats 4000000 in
theorem met_J9_copyOf_2 (l : Launch) (G : GP) (d : Nat) {B : Nat} {post : Option Nat → HS → Prop} {y0 : HS} {p0 : Option Nat} {i1 : Int32} (hw : wp_J9_copyOf_2 G B post y0 p0 i1) : vx_Met l yJ9_copyOf_2 (ws_ yJ9_copyOf_2 cJ9_copyOf_2 2 (some (.array (.object "java/lang/Object")))) (rmB (d + 2) B) (hPc G y0 [va_rf p0, .int (i1)]) (hQq G y0 post) (hX G y0 (fun _ _ _ => False)) B (20 * B) (HA y0) := by
  unfold wp_J9_copyOf_2 at hw
  refine hv_met (own := RJ9) (by decide) rfl (by simp [lg_sl, va_rf_cat, int_cat, long_cat]) ?_
  intro p e s m args below meth c ls E hr hlocks hnm hE hK hI hl
  replace hl : lv_has ls 2 [(0, va_rf p0), (1, .int (i1))] := by simpa [lv_args, va_rf_cat, int_cat, long_cat] using hl
  have hu : 0 ≤ B := Nat.zero_le _
  refine hv_aload_n (r := p0) E.1 E.2.1 dJ9_copyOf_2_0 rfl (lv_at hl 0 rfl) ?_
  refine lv_iload_n E.1 E.2.1 dJ9_copyOf_2_1 rfl (lv_at hl 1 rfl) ?_
  refine hv_aload_n (r := p0) E.1 E.2.1 dJ9_copyOf_2_2 rfl (lv_at hl 0 rfl) ?_
  obtain ⟨a1, ea1, hw⟩ := hw
  revert hl hw; subst ea1; intro hl hw
  obtain ⟨n2, g3, hra, hw⟩ := hw
  refine hv_getC E hK hI hra q929 hl.1 (by first | rfl | decide | (simp [va_rf_cat, int_cat, long_cat]; done) | (simp [va_rf_cat, int_cat, long_cat]; decide)) dJ9_copyOf_2_3 ?_
  obtain ⟨k6, hB, hw⟩ := hw
  have hq := hw
  clear hw
  refine hv_callq (u := 0) (B1 := k6) hI (vx_runS (As := [va_rf (some a1), .int (i1), va_rf (some (gE G 3))]) (rest := []) E (met_J9_copyOf_3 l G (d) hq) (va_cwS 3 E.2.2.2.2 (lw_S q961 q962 q136 q963) rfl rfl rfl hs_J9_copyOf_3 (rm_ok (by omega) (by decide))) (hv_preS hK hI) rfl rfl hl.1 rfl (lv_room (by first | rfl | decide | (simp [va_rf_cat, int_cat, long_cat]; done) | (simp [va_rf_cat, int_cat, long_cat]; decide))) dJ9_copyOf_2_6 (hv_fit (by first | exact hB | omega))) (fun _ _ _ _ _ h => h.elim) (fun r5 y4 H locs hw hI => ?_)
  have hu := hB
  exact hv_aret (r := r5) E hr (Or.inr ⟨_, rfl⟩) hlocks hI hu hw dJ9_copyOf_2_9
/-- java/util/ArrayList.grow(I)[Ljava/lang/Object; -/
def wp_J2_grow_2 (G : GP) (B : Nat) (post : Option Nat → HS → Prop) (y0 : HS) (a0 : Nat) (i1 : Int32) : Prop := ∃ J1 : HS → Nat → Int32 → Prop, (∀ (y3 : HS) (u5 : Nat) (x4 : Int32), J1 y3 u5 x4 → u5 ≤ B ∧ wp_J7_newLength G (fun x7 y6 => ∃ f8, fR y6 a0 18 1 f8 ∧ ∃ k11, u5 + k11 ≤ B ∧ wp_J9_copyOf_2 G k11 (fun r10 y9 => ∃ fs13, y9.1 a0 = some (ob 18 fs13) ∧ 1 < fs13.length ∧ ∀ y12, y12 = hput y9 a0 (ob 18 (fs13.set 1 (va_rf r10))) → post r10 y12) y6 f8 x7) y3 x4 (i1 - x4) (x4 >>> ((nI 1) &&& 31))) ∧ (∃ f14, fR y0 a0 18 1 f14 ∧ ∃ a15, f14 = some a15 ∧ ∃ (n16 : Nat) (g17 : Nat → Option Nat), rd G y0 a15 (ar 6 n16 g17) ∧ ∀ x18, x18 = nI n16 → (0 < x18 → J1 y0 0 x18) ∧ (¬ 0 < x18 → ∃ f20, fR y0 a0 18 1 f20 ∧ (f20 = (some (gE G 0)) → ∃ n24, (if (nI 10) < i1 then i1 else (nI 10)) = nI n24 ∧ n24 < 2 ^ 20 ∧ 0 + (1 + n24 / 20) ≤ B ∧ ∀ a23, a23 = y0.2 → ∀ y22, y22 = hnew y0 (ar 6 n24 (fun _ => none)) → ∃ fs26, y22.1 a0 = some (ob 18 fs26) ∧ 1 < fs26.length ∧ ∀ y25, y25 = hput y22 a0 (ob 18 (fs26.set 1 (va_rf (some a23)))) → post (some a23) y25) ∧ (¬ f20 = (some (gE G 0)) → J1 y0 0 x18)))
theorem hs_J2_grow_2 : yJ2_grow_2.cls ≠ "java/lang/invoke/MethodHandle" ∧ yJ2_grow_2.cls ≠ "java/lang/invoke/VarHandle" ∧ (parseMethodDescriptor yJ2_grow_2.desc).map (fun d => d.parameters.length) = some 1 := by decide +kernel
theorem hd_J2_grow_2 : yJ2_grow_2.cls = RJ2 ∧ yJ2_grow_2.cls ≠ "java/lang/invoke/MethodHandle" ∧ yJ2_grow_2.cls ≠ "java/lang/invoke/VarHandle" ∧ (parseMethodDescriptor yJ2_grow_2.desc).map (fun d => d.parameters.length) = some 1 := by decide +kernel
set_option maxHeartbeats 4000000 in
theorem met_J2_grow_2 (l : Launch) (G : GP) (d : Nat) {B : Nat} {post : Option Nat → HS → Prop} {y0 : HS} {a0 : Nat} {i1 : Int32} (hw : wp_J2_grow_2 G B post y0 a0 i1) : vx_Met l yJ2_grow_2 (ws_ yJ2_grow_2 cJ2_grow_2 4 (some (.array (.object "java/lang/Object")))) (rmB (d + 3) B) (hPc G y0 [va_rf (some a0), .int (i1)]) (hQq G y0 post) (hX G y0 (fun _ _ _ => False)) B (20 * B) (HA y0) := by
  unfold wp_J2_grow_2 at hw
  refine hv_met (own := RJ2) (by decide) rfl (Nat.le_of_ble_eq_true rfl) ?_
  intro p e s m args below meth c ls E hr hlocks hnm hE hK hI hl
  replace hl : lv_has ls 4 [(0, va_rf (some a0)), (1, .int (i1))] := hl
  have hu : 0 ≤ B := Nat.zero_le _
  obtain ⟨J1, hj27, hw⟩ := hw
  have jh2 : ∀ (y3 : HS) (u5 : Nat) (x4 : Int32), J1 y3 u5 x4 → ∀ (H : Heap) (locs : List Loc) (ls : Array Slot), HI G y0 y3 s H locs → lv_has ls 4 [(0, va_rf (some a0)), (1, .int (i1)), (2, .int (x4))] → W p l e (rmB (d + 3) B) s m args below meth c H locs u5 (20 * u5) (vx_MQ below (hQq G y0 post) (hX G y0 (fun _ _ _ => False)) args s B (20 * B) (HA y0)) (F0 m 20 ls []) := by
    intro y3 u5 x4 hw H locs ls hI hl
    replace hw := hj27 y3 u5 x4 hw
    obtain ⟨hu, hw⟩ := hw
    refine lv_iload_n E.1 E.2.1 dJ2_grow_2_20 rfl (lv_at hl 2 rfl) ?_
    refine lv_iload_n E.1 E.2.1 dJ2_grow_2_21 rfl (lv_at hl 1 rfl) ?_
    refine lv_iload_n E.1 E.2.1 dJ2_grow_2_22 rfl (lv_at hl 2 rfl) ?_
    refine lv_isub E.1 E.2.1 dJ2_grow_2_23 ?_
    refine lv_iload_n E.1 E.2.1 dJ2_grow_2_24 rfl (lv_at hl 2 rfl) ?_
    refine lv_iconst (v := nI 1) E.1 E.2.1 dJ2_grow_2_25 rfl ?_
    refine lv_ishr E.1 E.2.1 dJ2_grow_2_26 ?_
    have hq := hw
    clear hw
    refine hv_calli (u := u5) (B1 := 0) hI (vx_runS (As := [.int (x4), .int (i1 - x4), .int (x4 >>> ((nI 1) &&& 31))]) (rest := []) E (met_J7_newLength l G (d + 1) hq) (va_cwS 3 E.2.2.2.2 (lw_S q925 q390 q134 q391) rfl rfl rfl hs_J7_newLength (rm_ok (by omega) (by decide))) (hv_preS hK hI) rfl rfl hl.1 rfl (lv_room (by first | rfl | decide | (simp [va_rf_cat, int_cat, long_cat]; done) | (simp [va_rf_cat, int_cat, long_cat]; decide))) dJ2_grow_2_27 (hv_fit (by first | exact hu | omega))) (fun _ _ _ _ _ h => h.elim) (fun x7 y6 H locs hw hI => ?_)
    refine lv_istore_n (lv' := [(3, .int (x7)), (0, va_rf (some a0)), (1, .int (i1)), (2, .int (x4))]) E.1 E.2.1 dJ2_grow_2_30 rfl hl (Nat.le_of_ble_eq_true rfl) (by first | rfl | decide | (simp [va_rf_cat, int_cat, long_cat]; done) | (simp [va_rf_cat, int_cat, long_cat]; decide)) (fun ls hl => ?_)
    refine hv_aload_n (r := some a0) E.1 E.2.1 dJ2_grow_2_31 rfl (lv_at hl 1 rfl) ?_
    refine hv_aload_n (r := some a0) E.1 E.2.1 dJ2_grow_2_32 rfl (lv_at hl 1 rfl) ?_
    obtain ⟨f8, ⟨fs, hfs, hfk⟩, hw⟩ := hw
    refine hv_get (v := va_rf f8) E hK hI ciJ2 1 (Nat.le_of_ble_eq_true rfl) q216 (fun _ h => h) (Or.inl hfs) hfk dJ2_grow_2_33 ?_
    refine lv_iload_n E.1 E.2.1 dJ2_grow_2_36 rfl (lv_at hl 0 rfl) ?_
    obtain ⟨k11, hB, hw⟩ := hw
    have hq := hw
    clear hw
    refine hv_callq (u := u5) (B1 := k11) hI (vx_runS (As := [va_rf f8, .int (x7)]) (rest := [va_rf (some a0)]) E (met_J9_copyOf_2 l G (d) hq) (va_cwS 2 E.2.2.2.2 (lw_S q926 q927 q136 q928) rfl rfl rfl hs_J9_copyOf_2 (rm_ok (by omega) (by decide))) (hv_preS hK hI) rfl rfl hl.1 rfl (lv_room (by first | rfl | decide | (simp [va_rf_cat, int_cat, long_cat]; done) | (simp [va_rf_cat, int_cat, long_cat]; decide))) dJ2_grow_2_37 (hv_fit (by first | exact hB | omega))) (fun _ _ _ _ _ h => h.elim) (fun r10 y9 H locs hw hI => ?_)
    have hu := hB
    refine lv_dup_x1 E.1 E.2.1 dJ2_grow_2_40 (va_rf_cat _) (va_rf_cat _) ?_
    obtain ⟨fs13, hfs, hln, hw⟩ := hw
    refine hv_put (v := va_rf r10) E hK hI ciJ2 1 (Nat.le_of_ble_eq_true rfl) q216 (fun _ h => h) rfl (rf_nar _ _ rfl) (rf_fit _ _ rfl) hfs hln dJ2_grow_2_41 (fun H locs hI => ?_)
    obtain ⟨y12, ey12⟩ : ∃ w, w = hput y9 a0 (ob 18 (fs13.set 1 (va_rf r10))) := ⟨_, rfl⟩
    rw [← ey12] at hI
    replace hw := hw y12 ey12
    exact hv_aret (r := r10) E hr (Or.inr ⟨_, rfl⟩) hlocks hI hu hw dJ2_grow_2_44
  refine hv_aload_n (r := some a0) E.1 E.2.1 dJ2_grow_2_0 rfl (lv_at hl 0 rfl) ?_
  obtain ⟨f14, ⟨fs, hfs, hfk⟩, hw⟩ := hw
  refine hv_get (v := va_rf f14) E hK hI ciJ2 1 (Nat.le_of_ble_eq_true rfl) q216 (fun _ h => h) (Or.inl hfs) hfk dJ2_grow_2_1 ?_
  obtain ⟨a15, ea15, hw⟩ := hw
  revert hl hw; subst ea15; intro hl hw
  obtain ⟨n16, g17, hra, hw⟩ := hw
  refine hv_alen (t := 6) E hK hI hra rfl dJ2_grow_2_4 ?_
  refine lv_topi (fun x18 ex18 => ?_)
  replace hw := hw x18 ex18
  refine lv_istore_n (lv' := [(2, .int (x18)), (0, va_rf (some a0)), (1, .int (i1))]) E.1 E.2.1 dJ2_grow_2_5 rfl hl (Nat.le_of_ble_eq_true rfl) (by first | rfl | decide | (simp [va_rf_cat, int_cat, long_cat]; done) | (simp [va_rf_cat, int_cat, long_cat]; decide)) (fun ls hl => ?_)
  refine lv_iload_n E.1 E.2.1 dJ2_grow_2_6 rfl (lv_at hl 0 rfl) ?_
  refine lv_if_gt (tgt := 20) E.1 E.2.1 dJ2_grow_2_7 (by decide) (fun c19 => ?_) (fun c19 => ?_)
  · replace hw := hw.1 (c19)
    exact jh2 _ _ _ hw _ _ _ hI (lv_sub hl [1, 2, 0] rfl)
  · replace hw := hw.2 (c19)
    refine hv_aload_n (r := some a0) E.1 E.2.1 dJ2_grow_2_10 rfl (lv_at hl 1 rfl) ?_
    obtain ⟨f20, ⟨fs, hfs, hfk⟩, hw⟩ := hw
    refine hv_get (v := va_rf f20) E hK hI ciJ2 1 (Nat.le_of_ble_eq_true rfl) q216 (fun _ h => h) (Or.inl hfs) hfk dJ2_grow_2_11 ?_
    refine hv_gets (v := va_rf (some (gE G 0))) E hK hI 2 rfl q214 (fun _ h => h) dJ2_grow_2_14 ?_
    refine lv_acmp_eq (rx := f20) (ry := some (gE G 0)) (tgt := 45) E.1 E.2.1 dJ2_grow_2_17 (by decide) (fun c21 => ?_) (fun c21 => ?_)
    · replace hw := hw.1 (c21)
      refine hv_aload_n (r := some a0) E.1 E.2.1 dJ2_grow_2_45 rfl (lv_at hl 1 rfl) ?_
      refine lv_bipush (v := nI 10) E.1 E.2.1 dJ2_grow_2_46 rfl ?_
      refine lv_iload_n E.1 E.2.1 dJ2_grow_2_48 rfl (lv_at hl 2 rfl) ?_
      refine va_mmax (rest := [va_rf (some a0)]) E.1 E.2.1 (by rw [E.2.2.1]; exact hl.1.symm) E.2.2.2.1 (E.2.2.2.2 _ q967) (E.2.2.2.2 _ q393) (E.2.2.2.2 _ q135) (E.2.2.2.2 _ q394) (mm_fr _) (mm_lo _ (by first | exact Nat.zero_le _ | decide | (simp [va_rf_cat, int_cat, long_cat]; done) | (simp [va_rf_cat, int_cat, long_cat]; decide))) (by first | exact hu | exact Nat.le_refl 0) (mm_sl (by first | exact hu | exact Nat.le_refl 0)) dJ2_grow_2_49 ?_
      obtain ⟨n24, eN, hN, hw⟩ := hw
      obtain ⟨hu, hw⟩ := hw
      refine hv_anew6 (N := n24) E hK hI q968 eN hN hu dJ2_grow_2_52 (fun H hI => ?_)
      obtain ⟨a23, ea23⟩ : ∃ w, w = y0.2 := ⟨_, rfl⟩
      obtain ⟨y22, ey22⟩ : ∃ w, w = hnew y0 (ar 6 n24 (fun _ => none)) := ⟨_, rfl⟩
      rw [← ea23]
      rw [← ey22] at hI
      replace hw := hw a23 ea23 y22 ey22
      refine lv_dup_x1 E.1 E.2.1 dJ2_grow_2_55 (va_rf_cat _) (va_rf_cat _) ?_
      obtain ⟨fs26, hfs, hln, hw⟩ := hw
      refine hv_put (v := va_rf (some a23)) E hK hI ciJ2 1 (Nat.le_of_ble_eq_true rfl) q216 (fun _ h => h) rfl (rf_nar _ _ rfl) (rf_fit _ _ rfl) hfs hln dJ2_grow_2_56 (fun H locs hI => ?_)
      obtain ⟨y25, ey25⟩ : ∃ w, w = hput y22 a0 (ob 18 (fs26.set 1 (va_rf (some a23)))) := ⟨_, rfl⟩
      rw [← ey25] at hI
      replace hw := hw y25 ey25
      exact hv_aret (r := some a23) E hr (Or.inr ⟨_, rfl⟩) hlocks hI hu hw dJ2_grow_2_59
    · replace hw := hw.2 (c21)
      exact jh2 _ _ _ hw _ _ _ hI (lv_sub hl [1, 2, 0] rfl)
/-- java/util/ArrayList.grow()[Ljava/lang/Object; -/
def wp_J2_grow (G : GP) (B : Nat) (post : Option Nat → HS → Prop) (y0 : HS) (a0 : Nat) : Prop := ∃ f1, fI y0 a0 18 2 f1 ∧ (∃ fs4, rd G y0 a0 (ob 18 fs4)) ∧ ∃ k5, 0 + k5 ≤ B ∧ wp_J2_grow_2 G k5 (fun r3 y2 => post r3 y2) y0 a0 (f1 + (nI 1))
theorem hs_J2_grow : yJ2_grow.cls ≠ "java/lang/invoke/MethodHandle" ∧ yJ2_grow.cls ≠ "java/lang/invoke/VarHandle" ∧ (parseMethodDescriptor yJ2_grow.desc).map (fun d => d.parameters.length) = some 0 := by decide +kernel
theorem hd_J2_grow : yJ2_grow.cls = RJ2 ∧ yJ2_grow.cls ≠ "java/lang/invoke/MethodHandle" ∧ yJ2_grow.cls ≠ "java/lang/invoke/VarHandle" ∧ (parseMethodDescriptor yJ2_grow.desc).map (fun d => d.parameters.length) = some 0 := by decide +kernel
set_option maxHeartbeats 4000000 in
theorem met_J2_grow (l : Launch) (G : GP) (d : Nat) {B : Nat} {post : Option Nat → HS → Prop} {y0 : HS} {a0 : Nat} (hw : wp_J2_grow G B post y0 a0) : vx_Met l yJ2_grow (ws_ yJ2_grow cJ2_grow 1 (some (.array (.object "java/lang/Object")))) (rmB (d + 4) B) (hPc G y0 [va_rf (some a0)]) (hQq G y0 post) (hX G y0 (fun _ _ _ => False)) B (20 * B) (HA y0) := by
  unfold wp_J2_grow at hw
  refine hv_met (own := RJ2) (by decide) rfl (Nat.le_of_ble_eq_true rfl) ?_
  intro p e s m args below meth c ls E hr hlocks hnm hE hK hI hl
  replace hl : lv_has ls 1 [(0, va_rf (some a0))] := hl
  have hu : 0 ≤ B := Nat.zero_le _
  refine hv_aload_n (r := some a0) E.1 E.2.1 dJ2_grow_0 rfl (lv_at hl 0 rfl) ?_
  refine hv_aload_n (r := some a0) E.1 E.2.1 dJ2_grow_1 rfl (lv_at hl 0 rfl) ?_
  obtain ⟨f1, ⟨fs, hfs, hfk⟩, hw⟩ := hw
  refine hv_get (v := .int f1) E hK hI ciJ2 2 (Nat.le_of_ble_eq_true rfl) q217 (fun _ h => h) (Or.inl hfs) hfk dJ2_grow_2 ?_
  refine lv_iconst (v := nI 1) E.1 E.2.1 dJ2_grow_5 rfl ?_
  refine lv_iadd E.1 E.2.1 dJ2_grow_6 ?_
  obtain ⟨⟨fs4, hrv⟩, hw⟩ := hw
  obtain ⟨k5, hB, hw⟩ := hw
  have hq := hw
  clear hw
  refine hv_callq (u := 0) (B1 := k5) hI (vx_runV (As := [.int (f1 + (nI 1))]) (rest := []) E (met_J2_grow_2 l G (d) hq) (cwV 1 E.2.2.2.2 (lw_V q921 q923 qs22 q124 q924) rfl rfl rfl hd_J2_grow_2 (rm_ok (by omega) (by decide))) (hv_preV hK hI hrv rfl) rfl rfl hl.1 rfl (lv_room (by first | rfl | decide | (simp [va_rf_cat, int_cat, long_cat]; done) | (simp [va_rf_cat, int_cat, long_cat]; decide))) dJ2_grow_7 (hv_fit (by first | exact hB | omega))) (fun _ _ _ _ _ h => h.elim) (fun r3 y2 H locs hw hI => ?_)
  have hu := hB
  exact hv_aret (r := r3) E hr (Or.inr ⟨_, rfl⟩) hlocks hI hu hw dJ2_grow_10
/-- java/util/ArrayList.add(Ljava/lang/Object;[Ljava/lang/Object;I)V -/
def wp_J2_add_2 (G : GP) (B : Nat) (post : HS → Prop) (y0 : HS) (a0 : Nat) (p1 : Option Nat) (p2 : Option Nat) (i3 : Int32) : Prop := ∃ J1 : HS → Nat → (Option Nat) → Prop, (∀ (y3 : HS) (u5 : Nat) (r4 : Option Nat), J1 y3 u5 r4 → u5 ≤ B ∧ ∃ a9, r4 = some a9 ∧ ∃ (n6 : Nat) (g7 : Nat → Option Nat), y3.1 a9 = some (ar 6 n6 g7) ∧ vp_in i3 n6 ∧ okO G y3 p1 ∧ ∀ y8, y8 = hput y3 a9 (ar 6 n6 (va_up g7 i3.toNatClampNeg p1)) → ∃ fs11, y8.1 a0 = some (ob 18 fs11) ∧ 2 < fs11.length ∧ ∀ y10, y10 = hput y8 a0 (ob 18 (fs11.set 2 (.int (i3 + (nI 1))))) → post y10) ∧ (∃ a12, p2 = some a12 ∧ ∃ (n13 : Nat) (g14 : Nat → Option Nat), rd G y0 a12 (ar 6 n13 g14) ∧ (¬ i3 = (nI n13) → J1 y0 0 (some a12)) ∧ (i3 = (nI n13) → (∃ fs18, rd G y0 a0 (ob 18 fs18)) ∧ ∃ k19, 0 + k19 ≤ B ∧ wp_J2_grow G k19 (fun r17 y16 => J1 y16 ((0 + k19)) r17) y0 a0))
theorem hs_J2_add_2 : yJ2_add_2.cls ≠ "java/lang/invoke/MethodHandle" ∧ yJ2_add_2.cls ≠ "java/lang/invoke/VarHandle" ∧ (parseMethodDescriptor yJ2_add_2.desc).map (fun d => d.parameters.length) = some 3 := by decide +kernel
theorem hd_J2_add_2 : yJ2_add_2.cls = RJ2 ∧ yJ2_add_2.cls ≠ "java/lang/invoke/MethodHandle" ∧ yJ2_add_2.cls ≠ "java/lang/invoke/VarHandle" ∧ (parseMethodDescriptor yJ2_add_2.desc).map (fun d => d.parameters.length) = some 3 := by decide +kernel
set_option maxHeartbeats 4000000 in
theorem met_J2_add_2 (l : Launch) (G : GP) (d : Nat) {B : Nat} {post : HS → Prop} {y0 : HS} {a0 : Nat} {p1 : Option Nat} {p2 : Option Nat} {i3 : Int32} (hw : wp_J2_add_2 G B post y0 a0 p1 p2 i3) : vx_Met l yJ2_add_2 (ws_ yJ2_add_2 cJ2_add_2 4 none) (rmB (d + 5) B) (hPc G y0 [va_rf (some a0), va_rf p1, va_rf p2, .int (i3)]) (hQv G y0 post) (hX G y0 (fun _ _ _ => False)) B (20 * B) (HA y0) := by
  unfold wp_J2_add_2 at hw
  refine hv_met (own := RJ2) (by decide) rfl (by simp [lg_sl, va_rf_cat, int_cat, long_cat]) ?_
  intro p e s m args below meth c ls E hr hlocks hnm hE hK hI hl
  replace hl : lv_has ls 4 [(0, va_rf (some a0)), (1, va_rf p1), (2, va_rf p2), (3, .int (i3))] := by simpa [lv_args, va_rf_cat, int_cat, long_cat] using hl
  have hu : 0 ≤ B := Nat.zero_le _
  obtain ⟨J1, hj20, hw⟩ := hw
  have jh2 : ∀ (y3 : HS) (u5 : Nat) (r4 : Option Nat), J1 y3 u5 r4 → ∀ (H : Heap) (locs : List Loc) (ls : Array Slot), HI G y0 y3 s H locs → lv_has ls 4 [(0, va_rf (some a0)), (1, va_rf p1), (2, va_rf r4), (3, .int (i3))] → W p l e (rmB (d + 5) B) s m args below meth c H locs u5 (20 * u5) (vx_MQ below (hQv G y0 post) (hX G y0 (fun _ _ _ => False)) args s B (20 * B) (HA y0)) (F0 m 11 ls []) := by
    intro y3 u5 r4 hw H locs ls hI hl
    replace hw := hj20 y3 u5 r4 hw
    obtain ⟨hu, hw⟩ := hw
    refine hv_aload_n (r := r4) E.1 E.2.1 dJ2_add_2_11 rfl (lv_at hl 2 rfl) ?_
    refine lv_iload_n E.1 E.2.1 dJ2_add_2_12 rfl (lv_at hl 3 rfl) ?_
    refine hv_aload_n (r := p1) E.1 E.2.1 dJ2_add_2_13 rfl (lv_at hl 1 rfl) ?_
    obtain ⟨a9, ea9, hw⟩ := hw
    rw [ea9]
    obtain ⟨n6, g7, hra, hin, hok, hw⟩ := hw
    refine hv_aast6 E hK hI hra hin hok dJ2_add_2_14 (fun H locs hI => ?_)
    obtain ⟨y8, ey8⟩ : ∃ w, w = hput y3 a9 (ar 6 n6 (va_up g7 i3.toNatClampNeg p1)) := ⟨_, rfl⟩
    rw [← ey8] at hI
    replace hw := hw y8 ey8
    refine hv_aload_n (r := some a0) E.1 E.2.1 dJ2_add_2_15 rfl (lv_at hl 0 rfl) ?_
    refine lv_iload_n E.1 E.2.1 dJ2_add_2_16 rfl (lv_at hl 3 rfl) ?_
    refine lv_iconst (v := nI 1) E.1 E.2.1 dJ2_add_2_17 rfl ?_
    refine lv_iadd E.1 E.2.1 dJ2_add_2_18 ?_
    obtain ⟨fs11, hfs, hln, hw⟩ := hw
    refine hv_put (v := .int (i3 + (nI 1))) E hK hI ciJ2 2 (Nat.le_of_ble_eq_true rfl) q217 (fun _ h => h) rfl rfl rfl hfs hln dJ2_add_2_19 (fun H locs hI => ?_)
    obtain ⟨y10, ey10⟩ : ∃ w, w = hput y8 a0 (ob 18 (fs11.set 2 (.int (i3 + (nI 1))))) := ⟨_, rfl⟩
    rw [← ey10] at hI
    replace hw := hw y10 ey10
    exact hv_vret E hr hlocks hI hu hw dJ2_add_2_22
  refine lv_iload_n E.1 E.2.1 dJ2_add_2_0 rfl (lv_at hl 3 rfl) ?_
  refine hv_aload_n (r := p2) E.1 E.2.1 dJ2_add_2_1 rfl (lv_at hl 2 rfl) ?_
  obtain ⟨a12, ea12, hw⟩ := hw
  revert hl hw; subst ea12; intro hl hw
  obtain ⟨n13, g14, hra, hw⟩ := hw
  refine hv_alen (t := 6) E hK hI hra rfl dJ2_add_2_2 ?_
  refine lv_icmp_ne (tgt := 11) E.1 E.2.1 dJ2_add_2_3 (by decide) (fun c15 => ?_) (fun c15 => ?_)
  · replace hw := hw.1 (c15)
    exact jh2 _ _ _ hw _ _ _ hI (lv_sub hl [0, 1, 2, 3] rfl)
  · replace hw := hw.2 (c15)
    refine hv_aload_n (r := some a0) E.1 E.2.1 dJ2_add_2_6 rfl (lv_at hl 0 rfl) ?_
    obtain ⟨⟨fs18, hrv⟩, hw⟩ := hw
    obtain ⟨k19, hB, hw⟩ := hw
    have hq := hw
    clear hw
    refine hv_callq (u := 0) (B1 := k19) hI (vx_runV (As := []) (rest := []) E (met_J2_grow l G (d) hq) (cwV 0 E.2.2.2.2 (lw_V q917 q919 qs21 q124 q920) rfl rfl rfl hd_J2_grow (rm_ok (by omega) (by decide))) (hv_preV hK hI hrv rfl) rfl rfl hl.1 rfl (lv_room (by first | rfl | decide | (simp [va_rf_cat, int_cat, long_cat]; done) | (simp [va_rf_cat, int_cat, long_cat]; decide))) dJ2_add_2_7 (hv_fit (by first | exact hB | omega))) (fun _ _ _ _ _ h => h.elim) (fun r17 y16 H locs hw hI => ?_)
    have hu := hB
    refine hv_astore_n (r := r17) (lv' := [(2, va_rf r17), (0, va_rf (some a0)), (1, va_rf p1), (3, .int (i3))]) E.1 E.2.1 dJ2_add_2_10 rfl hl (Nat.le_of_ble_eq_true rfl) (by first | rfl | decide | (simp [va_rf_cat, int_cat, long_cat]; done) | (simp [va_rf_cat, int_cat, long_cat]; decide)) (fun ls hl => ?_)
    exact jh2 _ _ _ hw _ _ _ hI (lv_sub hl [1, 2, 0, 3] rfl)
/-- java/util/ArrayList.add(Ljava/lang/Object;)Z -/
def wp_J2_add (G : GP) (B : Nat) (post : Bool → HS → Prop) (y0 : HS) (a0 : Nat) (p1 : Option Nat) : Prop := ∃ f1, fI y0 a0 18 0 f1 ∧ ∃ fs3, y0.1 a0 = some (ob 18 fs3) ∧ 0 < fs3.length ∧ ∀ y2, y2 = hput y0 a0 (ob 18 (fs3.set 0 (.int (f1 + (nI 1))))) → ∃ f4, fR y2 a0 18 1 f4 ∧ ∃ f5, fI y2 a0 18 2 f5 ∧ (∃ fs7, rd G y2 a0 (ob 18 fs7)) ∧ ∃ k8, 0 + k8 ≤ B ∧ wp_J2_add_2 G k8 (fun y6 => post true y6) y2 a0 p1 f4 f5
theorem hs_J2_add : yJ2_add.cls ≠ "java/lang/invoke/MethodHandle" ∧ yJ2_add.cls ≠ "java/lang/invoke/VarHandle" ∧ (parseMethodDescriptor yJ2_add.desc).map (fun d => d.parameters.length) = some 1 := by decide +kernel
theorem hd_J2_add : yJ2_add.cls = RJ2 ∧ yJ2_add.cls ≠ "java/lang/invoke/MethodHandle" ∧ yJ2_add.cls ≠ "java/lang/invoke/VarHandle" ∧ (parseMethodDescriptor yJ2_add.desc).map (fun d => d.parameters.length) = some 1 := by decide +kernel
set_option maxHeartbeats 4000000 in
theorem met_J2_add (l : Launch) (G : GP) (d : Nat) {B : Nat} {post : Bool → HS → Prop} {y0 : HS} {a0 : Nat} {p1 : Option Nat} (hw : wp_J2_add G B post y0 a0 p1) : vx_Met l yJ2_add (ws_ yJ2_add cJ2_add 2 (some .boolean)) (rmB (d + 6) B) (hPc G y0 [va_rf (some a0), va_rf p1]) (hQz G y0 post) (hX G y0 (fun _ _ _ => False)) B (20 * B) (HA y0) := by
  unfold wp_J2_add at hw
  refine hv_met (own := RJ2) (by decide) rfl (by simp [lg_sl, va_rf_cat, int_cat, long_cat]) ?_
  intro p e s m args below meth c ls E hr hlocks hnm hE hK hI hl
  replace hl : lv_has ls 2 [(0, va_rf (some a0)), (1, va_rf p1)] := by simpa [lv_args, va_rf_cat, int_cat, long_cat] using hl
  have hu : 0 ≤ B := Nat.zero_le _
  refine hv_aload_n (r := some a0) E.1 E.2.1 dJ2_add_0 rfl (lv_at hl 0 rfl) ?_
  refine hv_dup E.1 E.2.1 dJ2_add_1 ?_
  obtain ⟨f1, ⟨fs, hfs, hfk⟩, hw⟩ := hw
  refine hv_get (v := .int f1) E hK hI ciJ2 0 (Nat.le_of_ble_eq_true rfl) q219 (fun x h => u_same (E.2.2.2.2 _ q220) x h) (Or.inl hfs) hfk dJ2_add_2 ?_
  refine lv_iconst (v := nI 1) E.1 E.2.1 dJ2_add_5 rfl ?_
  refine lv_iadd E.1 E.2.1 dJ2_add_6 ?_
  obtain ⟨fs3, hfs, hln, hw⟩ := hw
  refine hv_put (v := .int (f1 + (nI 1))) E hK hI ciJ2 0 (Nat.le_of_ble_eq_true rfl) q219 (fun x h => u_same (E.2.2.2.2 _ q220) x h) rfl rfl rfl hfs hln dJ2_add_7 (fun H locs hI => ?_)
  obtain ⟨y2, ey2⟩ : ∃ w, w = hput y0 a0 (ob 18 (fs3.set 0 (.int (f1 + (nI 1))))) := ⟨_, rfl⟩
  rw [← ey2] at hI
  replace hw := hw y2 ey2
  refine hv_aload_n (r := some a0) E.1 E.2.1 dJ2_add_10 rfl (lv_at hl 0 rfl) ?_
  refine hv_aload_n (r := p1) E.1 E.2.1 dJ2_add_11 rfl (lv_at hl 1 rfl) ?_
  refine hv_aload_n (r := some a0) E.1 E.2.1 dJ2_add_12 rfl (lv_at hl 0 rfl) ?_
  obtain ⟨f4, ⟨fs, hfs, hfk⟩, hw⟩ := hw
  refine hv_get (v := va_rf f4) E hK hI ciJ2 1 (Nat.le_of_ble_eq_true rfl) q216 (fun _ h => h) (Or.inl hfs) hfk dJ2_add_13 ?_
  refine hv_aload_n (r := some a0) E.1 E.2.1 dJ2_add_16 rfl (lv_at hl 0 rfl) ?_
  obtain ⟨f5, ⟨fs, hfs, hfk⟩, hw⟩ := hw
  refine hv_get (v := .int f5) E hK hI ciJ2 2 (Nat.le_of_ble_eq_true rfl) q217 (fun _ h => h) (Or.inl hfs) hfk dJ2_add_17 ?_
  obtain ⟨⟨fs7, hrv⟩, hw⟩ := hw
  obtain ⟨k8, hB, hw⟩ := hw
  have hq := hw
  clear hw
  refine hv_callv (u := 0) (B1 := k8) hI (vx_runV (As := [va_rf p1, va_rf f4, .int (f5)]) (rest := []) E (met_J2_add_2 l G (d) hq) (cwV 3 E.2.2.2.2 (lw_V q913 q915 qs20 q124 q916) rfl rfl rfl hd_J2_add_2 (rm_ok (by omega) (by decide))) (hv_preV hK hI hrv rfl) rfl rfl hl.1 rfl (lv_room (by first | rfl | decide | (simp [va_rf_cat, int_cat, long_cat]; done) | (simp [va_rf_cat, int_cat, long_cat]; decide))) dJ2_add_20 (hv_fit (by first | exact hB | omega))) (fun _ _ _ _ _ h => h.elim) (fun y6 H locs hw hI => ?_)
  have hu := hB
  refine lv_iconst (v := nI 1) E.1 E.2.1 dJ2_add_23 rfl ?_
  exact hv_iretz (b := true) E hr hlocks hI hu rfl hw dJ2_add_24
/-- java/lang/Integer.intValue()I -/
def wp_J13_intValue (G : GP) (post : Int32 → HS → Prop) (y0 : HS) (a0 : Nat) : Prop := ∃ f1, fIc G y0 a0 21 0 f1 ∧ post f1 y0
theorem hs_J13_intValue : yJ13_intValue.cls ≠ "java/lang/invoke/MethodHandle" ∧ yJ13_intValue.cls ≠ "java/lang/invoke/VarHandle" ∧ (parseMethodDescriptor yJ13_intValue.desc).map (fun d => d.parameters.length) = some 0 := by decide +kernel
theorem hd_J13_intValue : yJ13_intValue.cls = RJ13 ∧ yJ13_intValue.cls ≠ "java/lang/invoke/MethodHandle" ∧ yJ13_intValue.cls ≠ "java/lang/invoke/VarHandle" ∧ (parseMethodDescriptor yJ13_intValue.desc).map (fun d => d.parameters.length) = some 0 := by decide +kernel
set_option maxHeartbeats 4000000 in
theorem met_J13_intValue (l : Launch) (G : GP) (d : Nat) {post : Int32 → HS → Prop} {y0 : HS} {a0 : Nat} (hw : wp_J13_intValue G post y0 a0) : vx_Met l yJ13_intValue (ws_ yJ13_intValue cJ13_intValue 1 (some .int)) (rmB (d + 0) 0) (hPc G y0 [va_rf (some a0)]) (hQi G y0 post) (hX G y0 (fun _ _ _ => False)) 0 (20 * 0) (HA y0) := by
  unfold wp_J13_intValue at hw
  refine hv_met (own := RJ13) (by decide) rfl (Nat.le_of_ble_eq_true rfl) ?_
  intro p e s m args below meth c ls E hr hlocks hnm hE hK hI hl
  replace hl : lv_has ls 1 [(0, va_rf (some a0))] := hl
  refine hv_aload_n (r := some a0) E.1 E.2.1 dJ13_intValue_0 rfl (lv_at hl 0 rfl) ?_
  obtain ⟨f1, ⟨fs, hfs, hfk⟩, hw⟩ := hw
  refine hv_get (v := .int f1) E hK hI ciJ13 0 (Nat.le_of_ble_eq_true rfl) q555 (fun _ h => h) hfs hfk dJ13_intValue_1 ?_
  exact hv_ireti E hr hlocks hI (Nat.le_refl 0) hw dJ13_intValue_4
/-- java/lang/Integer.equals(Ljava/lang/Object;)Z -/
def wp_J13_equals (G : GP) (post : Bool → HS → Prop) (y0 : HS) (a0 : Nat) (p1 : Option Nat) : Prop := ∃ b1, isIn G y0 p1 21 b1 ∧ (b1 = false → post false y0) ∧ (b1 = true → ∃ f3, fIc G y0 a0 21 0 f3 ∧ isOf G y0 p1 21 ∧ ∃ a4, p1 = some a4 ∧ (∃ fs7, rd G y0 a4 (ob 21 fs7)) ∧ wp_J13_intValue G (fun x6 y5 => (¬ f3 = x6 → post false y5) ∧ (f3 = x6 → post true y5)) y0 a4)
theorem hs_J13_equals : yJ13_equals.cls ≠ "java/lang/invoke/MethodHandle" ∧ yJ13_equals.cls ≠ "java/lang/invoke/VarHandle" ∧ (parseMethodDescriptor yJ13_equals.desc).map (fun d => d.parameters.length) = some 1 := by decide +kernel
theorem hd_J13_equals : yJ13_equals.cls = RJ13 ∧ yJ13_equals.cls ≠ "java/lang/invoke/MethodHandle" ∧ yJ13_equals.cls ≠ "java/lang/invoke/VarHandle" ∧ (parseMethodDescriptor yJ13_equals.desc).map (fun d => d.parameters.length) = some 1 := by decide +kernel
set_option maxHeartbeats 4000000 in
theorem met_J13_equals (l : Launch) (G : GP) (d : Nat) {post : Bool → HS → Prop} {y0 : HS} {a0 : Nat} {p1 : Option Nat} (hw : wp_J13_equals G post y0 a0 p1) : vx_Met l yJ13_equals (ws_ yJ13_equals cJ13_equals 2 (some .boolean)) (rmB (d + 1) 0) (hPc G y0 [va_rf (some a0), va_rf p1]) (hQz G y0 post) (hX G y0 (fun _ _ _ => False)) 0 (20 * 0) (HA y0) := by
  unfold wp_J13_equals at hw
  refine hv_met (own := RJ13) (by decide) rfl (by simp [lg_sl, va_rf_cat, int_cat, long_cat]) ?_
  intro p e s m args below meth c ls E hr hlocks hnm hE hK hI hl
  replace hl : lv_has ls 2 [(0, va_rf (some a0)), (1, va_rf p1)] := by simpa [lv_args, va_rf_cat, int_cat, long_cat] using hl
  refine hv_aload_n (r := p1) E.1 E.2.1 dJ13_equals_0 rfl (lv_at hl 1 rfl) ?_
  obtain ⟨b1, hin, hw⟩ := hw
  refine hv_inst (cn := 21) E hK hI (by decide) q546 hin dJ13_equals_1 ?_
  refine lv_if_eq (tgt := 27) E.1 E.2.1 dJ13_equals_4 (by decide) (fun c2 => ?_) (fun c2 => ?_)
  · replace hw := hw.1 (bi_z c2)
    refine lv_iconst (v := nI 0) E.1 E.2.1 dJ13_equals_27 rfl ?_
    exact hv_iretz (b := false) E hr hlocks hI (Nat.le_refl 0) rfl hw dJ13_equals_28
  · replace hw := hw.2 (bi_n c2)
    refine hv_aload_n (r := some a0) E.1 E.2.1 dJ13_equals_7 rfl (lv_at hl 0 rfl) ?_
    obtain ⟨f3, ⟨fs, hfs, hfk⟩, hw⟩ := hw
    refine hv_get (v := .int f3) E hK hI ciJ13 0 (Nat.le_of_ble_eq_true rfl) q555 (fun _ h => h) hfs hfk dJ13_equals_8 ?_
    refine hv_aload_n (r := p1) E.1 E.2.1 dJ13_equals_11 rfl (lv_at hl 1 rfl) ?_
    obtain ⟨hof, hw⟩ := hw
    refine hv_castC (cn := 21) E hK hI (by decide) q546 hof dJ13_equals_12 ?_
    obtain ⟨a4, ea4, hw⟩ := hw
    revert hl hw; subst ea4; intro hl hw
    obtain ⟨⟨fs7, hrv⟩, hw⟩ := hw
    have hq := hw
    clear hw
    refine hv_calli (u := 0) (B1 := 0) hI (vx_runV (As := []) (rest := [.int (f3)]) E (met_J13_intValue l G (d) hq) (cwV 0 E.2.2.2.2 (lw_V q1552 q993 q994 q141 q995) rfl rfl rfl hd_J13_intValue (rm_ok (by omega) (by decide))) (hv_preV hK hI hrv rfl) rfl rfl hl.1 rfl (lv_room (by first | rfl | decide | (simp [va_rf_cat, int_cat, long_cat]; done) | (simp [va_rf_cat, int_cat, long_cat]; decide))) dJ13_equals_15 (hv_fit (by first | exact (Nat.le_refl 0) | omega))) (fun _ _ _ _ _ h => h.elim) (fun x6 y5 H locs hw hI => ?_)
    refine lv_icmp_ne (tgt := 25) E.1 E.2.1 dJ13_equals_18 (by decide) (fun c8 => ?_) (fun c8 => ?_)
    · replace hw := hw.1 (c8)
      refine lv_iconst (v := nI 0) E.1 E.2.1 dJ13_equals_25 rfl ?_
      exact hv_iretz (b := false) E hr hlocks hI (Nat.le_refl 0) rfl hw dJ13_equals_26
    · replace hw := hw.2 (c8)
      refine lv_iconst (v := nI 1) E.1 E.2.1 dJ13_equals_21 rfl ?_
      refine lv_goto (tgt := 26) E.1 E.2.1 dJ13_equals_22 (by decide) ?_
      exact hv_iretz (b := true) E hr hlocks hI (Nat.le_refl 0) rfl hw dJ13_equals_26
/-- java/util/ArrayList.indexOfRange(Ljava/lang/Object;II)I -/
def wp_J2_indexOfRange (G : GP) (post : Int32 → HS → Prop) (y0 : HS) (a0 : Nat) (p1 : Option Nat) (i2 : Int32) (i3 : Int32) : Prop := ∃ f1, fR y0 a0 18 1 f1 ∧ (p1 = none → ∃ I4 : Nat → HS → Int32 → Prop, (∃ n10, I4 n10 y0 i2) ∧ ∀ (n5 : Nat) (y6 : HS) (x9 : Int32), I4 n5 y6 x9 → (i3 ≤ x9 → post ((-1)) y6) ∧ (¬ i3 ≤ x9 → ∃ a12, f1 = some a12 ∧ ∃ (n13 : Nat) (g14 : Nat → Option Nat), rd G y6 a12 (ar 6 n13 g14) ∧ vp_in x9 n13 ∧ (g14 x9.toNatClampNeg = none → post x9 y6) ∧ (∀ a16, g14 x9.toNatClampNeg = some a16 → ∃ n17, n17 < n5 ∧ I4 n17 y6 (x9 + nI 1)))) ∧ (∀ a3, p1 = some a3 → ∃ I20 : Nat → HS → Int32 → Prop, (∃ n26, I20 n26 y0 i2) ∧ ∀ (n21 : Nat) (y22 : HS) (x25 : Int32), I20 n21 y22 x25 → (i3 ≤ x25 → post ((-1)) y22) ∧ (¬ i3 ≤ x25 → ∃ a28, f1 = some a28 ∧ ∃ (n29 : Nat) (g30 : Nat → Option Nat), rd G y22 a28 (ar 6 n29 g30) ∧ vp_in x25 n29 ∧ ∃ K31 : Bool → HS → Prop, (∀ (b33 : Bool) (y32 : HS), K31 b33 y32 → (b33 = false → ∃ n37, n37 < n21 ∧ I20 n37 y32 (x25 + nI 1)) ∧ (b33 = true → post x25 y32)) ∧ (((∃ fs34, rd G y22 a3 (ob 21 fs34)) ∧ wp_J13_equals G K31 y22 a3 (g30 x25.toNatClampNeg)) ∨ ((∃ fs34, rd G y22 a3 (ob 11 fs34)) ∧ K31 (decide (some a3 = g30 x25.toNatClampNeg)) y22) ∨ ((∃ fs34, rd G y22 a3 (ob 7 fs34)) ∧ K31 (decide (some a3 = g30 x25.toNatClampNeg)) y22))))
theorem hs_J2_indexOfRange : yJ2_indexOfRange.cls ≠ "java/lang/invoke/MethodHandle" ∧ yJ2_indexOfRange.cls ≠ "java/lang/invoke/VarHandle" ∧ (parseMethodDescriptor yJ2_indexOfRange.desc).map (fun d => d.parameters.length) = some 3 := by decide +kernel
theorem hd_J2_indexOfRange : yJ2_indexOfRange.cls = RJ2 ∧ yJ2_indexOfRange.cls ≠ "java/lang/invoke/MethodHandle" ∧ yJ2_indexOfRange.cls ≠ "java/lang/invoke/VarHandle" ∧ (parseMethodDescriptor yJ2_indexOfRange.desc).map (fun d => d.parameters.length) = some 3 := by decide +kernel
set_option maxHeartbeats 4000000 in
theorem met_J2_indexOfRange (l : Launch) (G : GP) (d : Nat) {post : Int32 → HS → Prop} {y0 : HS} {a0 : Nat} {p1 : Option Nat} {i2 : Int32} {i3 : Int32} (hw : wp_J2_indexOfRange G post y0 a0 p1 i2 i3) : vx_Met l yJ2_indexOfRange (ws_ yJ2_indexOfRange cJ2_indexOfRange 6 (some .int)) (rmB (d + 2) 0) (hPc G y0 [va_rf (some a0), va_rf p1, .int (i2), .int (i3)]) (hQi G y0 post) (hX G y0 (fun _ _ _ => False)) 0 (20 * 0) (HA y0) := by
  unfold wp_J2_indexOfRange at hw
  refine hv_met (own := RJ2) (by decide) rfl (by simp [lg_sl, va_rf_cat, int_cat, long_cat]) ?_
  intro p e s m args below meth c ls E hr hlocks hnm hE hK hI hl
  replace hl : lv_has ls 6 [(0, va_rf (some a0)), (1, va_rf p1), (2, .int (i2)), (3, .int (i3))] := by simpa [lv_args, va_rf_cat, int_cat, long_cat] using hl
  refine hv_aload_n (r := some a0) E.1 E.2.1 dJ2_indexOfRange_0 rfl (lv_at hl 0 rfl) ?_
  obtain ⟨f1, ⟨fs, hfs, hfk⟩, hw⟩ := hw
  refine hv_get (v := va_rf f1) E hK hI ciJ2 1 (Nat.le_of_ble_eq_true rfl) q216 (fun _ h => h) (Or.inl hfs) hfk dJ2_indexOfRange_1 ?_
  refine hv_astore (r := f1) (lv' := [(4, va_rf f1), (0, va_rf (some a0)), (1, va_rf p1), (2, .int (i2)), (3, .int (i3))]) E.1 E.2.1 dJ2_indexOfRange_4 hl (Nat.le_of_ble_eq_true rfl) (by first | rfl | decide | (simp [va_rf_cat, int_cat, long_cat]; done) | (simp [va_rf_cat, int_cat, long_cat]; decide)) (fun ls hl => ?_)
  refine hv_aload_n (r := p1) E.1 E.2.1 dJ2_indexOfRange_6 rfl (lv_at hl 2 rfl) ?_
  refine hv_ifnonnull (r := p1) (tgt := 39) E.1 E.2.1 dJ2_indexOfRange_7 (by decide) (fun a3 c2 => ?_) (fun c2 => ?_)
  · replace hw := hw.2 a3 c2
    revert hl hw; subst c2; intro hl hw
    refine lv_iload_n E.1 E.2.1 dJ2_indexOfRange_39 rfl (lv_at hl 3 rfl) ?_
    refine lv_istore (lv' := [(5, .int (i2)), (4, va_rf f1), (0, va_rf (some a0)), (1, va_rf (some a3)), (2, .int (i2)), (3, .int (i3))]) E.1 E.2.1 dJ2_indexOfRange_40 hl (Nat.le_of_ble_eq_true rfl) (by first | rfl | decide | (simp [va_rf_cat, int_cat, long_cat]; done) | (simp [va_rf_cat, int_cat, long_cat]; decide)) (fun ls hl => ?_)
    obtain ⟨I20, ⟨n26, hi39⟩, hb38⟩ := hw
    have L24 : ∀ (n21 : Nat) (y22 : HS) (x25 : Int32), I20 n21 y22 x25 → ∀ (H : Heap) (locs : List Loc) (ls : Array Slot), HI G y0 y22 s H locs → lv_has ls 6 [(1, va_rf (some a3)), (3, .int (i3)), (4, va_rf f1), (5, .int (x25))] → W p l e (rmB (d + 2) 0) s m args below meth c H locs 0 (20 * 0) (vx_MQ below (hQi G y0 post) (hX G y0 (fun _ _ _ => False)) args s 0 (20 * 0) (HA y0)) (F0 m 42 ls []) := by
      intro n21
      induction n21 using Nat.strongRecOn with
      | _ n21 ih23 =>
        intro y22 x25 hw H locs ls hI hl
        replace hw := hb38 n21 y22 x25 hw
        refine lv_iload E.1 E.2.1 dJ2_indexOfRange_42 (lv_at hl 3 rfl) ?_
        refine lv_iload_n E.1 E.2.1 dJ2_indexOfRange_44 rfl (lv_at hl 1 rfl) ?_
        refine lv_icmp_ge (tgt := 69) E.1 E.2.1 dJ2_indexOfRange_45 (by decide) (fun c27 => ?_) (fun c27 => ?_)
        · replace hw := hw.1 (c27)
          refine lv_iconst (v := (-1)) E.1 E.2.1 dJ2_indexOfRange_69 rfl ?_
          exact hv_ireti E hr hlocks hI (Nat.le_refl 0) hw dJ2_indexOfRange_70
        · replace hw := hw.2 (c27)
          refine hv_aload_n (r := some a3) E.1 E.2.1 dJ2_indexOfRange_48 rfl (lv_at hl 0 rfl) ?_
          refine hv_aload (r := f1) E.1 E.2.1 dJ2_indexOfRange_49 (lv_at hl 2 rfl) ?_
          refine lv_iload E.1 E.2.1 dJ2_indexOfRange_51 (lv_at hl 3 rfl) ?_
          obtain ⟨a28, ea28, hw⟩ := hw
          revert hl hw; subst ea28; intro hl hw
          obtain ⟨n29, g30, hra, hin, hw⟩ := hw
          refine hv_aald E hK hI hra rfl rfl hin dJ2_indexOfRange_53 ?_
          obtain ⟨K31, hk35, hw⟩ := hw
          rcases hw with ⟨⟨fs34, hrv⟩, hw⟩ | ⟨⟨fs34, hrv⟩, hw⟩ | ⟨⟨fs34, hrv⟩, hw⟩
          · have hq := hw
            clear hw
            refine hv_callz (u := 0) (B1 := 0) hI (vx_runU (C := "java/lang/Integer") (owner := "java/lang/Object") (x := ⟨"java/lang/Object", "equals", "(Ljava/lang/Object;)Z"⟩) (As := [va_rf (g30 x25.toNatClampNeg)]) (rest := []) E (met_J13_equals l G (d) hq) (cw_any 1 E.2.2.2.2 (lw_meth q1551) rfl rfl q1522 q1524 (E.2.2.2.2 _ q1549) q1550 q141 (va_Decl.of (E.2.2.2.2 _ q1523) (E.2.2.2.2 _ q1557)) (by decide +kernel) (rm_ok (by omega) (by decide))) (hv_preV hK hI hrv rfl) rfl rfl hl.1 rfl (lv_room (by first | rfl | decide | (simp [va_rf_cat, int_cat, long_cat]; done) | (simp [va_rf_cat, int_cat, long_cat]; decide))) dJ2_indexOfRange_54 (hv_fit (by first | exact (Nat.le_refl 0) | omega))) (fun _ _ _ _ _ h => h.elim) (fun b33 y32 H locs hw hI => ?_)
            replace hw := hk35 b33 y32 hw
            refine lv_if_eq (tgt := 63) E.1 E.2.1 dJ2_indexOfRange_57 (by decide) (fun c36 => ?_) (fun c36 => ?_)
            · replace hw := hw.1 (bi_z c36)
              refine lv_iinc (k := 3) (v := x25 + nI 1) (lv' := [(5, .int (x25 + nI 1)), (1, va_rf (some a3)), (3, .int (i3)), (4, va_rf (some a28))]) E.1 E.2.1 dJ2_indexOfRange_63 hl rfl rfl (Nat.le_of_ble_eq_true rfl) (by first | rfl | decide | (simp [va_rf_cat, int_cat, long_cat]; done) | (simp [va_rf_cat, int_cat, long_cat]; decide)) (fun ls hl => ?_)
              refine lv_goto (tgt := 42) E.1 E.2.1 dJ2_indexOfRange_66 (by decide) ?_
              obtain ⟨n37, hnn37, hin37⟩ := hw
              exact ih23 n37 hnn37 _ _ hin37 _ _ _ hI (lv_sub hl [1, 2, 3, 0] rfl)
            · replace hw := hw.2 (bi_n c36)
              refine lv_iload E.1 E.2.1 dJ2_indexOfRange_60 (lv_at hl 3 rfl) ?_
              exact hv_ireti E hr hlocks hI (Nat.le_refl 0) hw dJ2_indexOfRange_62
          · refine hv_objEq (r := g30 x25.toNatClampNeg) E hK hI hrv rfl q1522 q1532 hl.1 (by first | rfl | decide | (simp [va_rf_cat, int_cat, long_cat]; done) | (simp [va_rf_cat, int_cat, long_cat]; decide)) dJ2_indexOfRange_54 ?_
            obtain ⟨b33, eb33⟩ : ∃ w, w = decide (some a3 = g30 x25.toNatClampNeg) := ⟨_, rfl⟩
            obtain ⟨y32, ey32⟩ : ∃ w, w = y22 := ⟨_, rfl⟩
            rw [← eb33] at hw ⊢
            rw [← ey32] at hw hI
            replace hw := hk35 b33 y32 hw
            refine lv_if_eq (tgt := 63) E.1 E.2.1 dJ2_indexOfRange_57 (by decide) (fun c36 => ?_) (fun c36 => ?_)
            · replace hw := hw.1 (bi_z c36)
              refine lv_iinc (k := 3) (v := x25 + nI 1) (lv' := [(5, .int (x25 + nI 1)), (1, va_rf (some a3)), (3, .int (i3)), (4, va_rf (some a28))]) E.1 E.2.1 dJ2_indexOfRange_63 hl rfl rfl (Nat.le_of_ble_eq_true rfl) (by first | rfl | decide | (simp [va_rf_cat, int_cat, long_cat]; done) | (simp [va_rf_cat, int_cat, long_cat]; decide)) (fun ls hl => ?_)
              refine lv_goto (tgt := 42) E.1 E.2.1 dJ2_indexOfRange_66 (by decide) ?_
              obtain ⟨n37, hnn37, hin37⟩ := hw
              exact ih23 n37 hnn37 _ _ hin37 _ _ _ hI (lv_sub hl [1, 2, 3, 0] rfl)
            · replace hw := hw.2 (bi_n c36)
              refine lv_iload E.1 E.2.1 dJ2_indexOfRange_60 (lv_at hl 3 rfl) ?_
              exact hv_ireti E hr hlocks hI (Nat.le_refl 0) hw dJ2_indexOfRange_62
          · refine hv_objEq (r := g30 x25.toNatClampNeg) E hK hI hrv rfl q1522 q1527 hl.1 (by first | rfl | decide | (simp [va_rf_cat, int_cat, long_cat]; done) | (simp [va_rf_cat, int_cat, long_cat]; decide)) dJ2_indexOfRange_54 ?_
            obtain ⟨b33, eb33⟩ : ∃ w, w = decide (some a3 = g30 x25.toNatClampNeg) := ⟨_, rfl⟩
            obtain ⟨y32, ey32⟩ : ∃ w, w = y22 := ⟨_, rfl⟩
            rw [← eb33] at hw ⊢
            rw [← ey32] at hw hI
            replace hw := hk35 b33 y32 hw
            refine lv_if_eq (tgt := 63) E.1 E.2.1 dJ2_indexOfRange_57 (by decide) (fun c36 => ?_) (fun c36 => ?_)
            · replace hw := hw.1 (bi_z c36)
              refine lv_iinc (k := 3) (v := x25 + nI 1) (lv' := [(5, .int (x25 + nI 1)), (1, va_rf (some a3)), (3, .int (i3)), (4, va_rf (some a28))]) E.1 E.2.1 dJ2_indexOfRange_63 hl rfl rfl (Nat.le_of_ble_eq_true rfl) (by first | rfl | decide | (simp [va_rf_cat, int_cat, long_cat]; done) | (simp [va_rf_cat, int_cat, long_cat]; decide)) (fun ls hl => ?_)
              refine lv_goto (tgt := 42) E.1 E.2.1 dJ2_indexOfRange_66 (by decide) ?_
              obtain ⟨n37, hnn37, hin37⟩ := hw
              exact ih23 n37 hnn37 _ _ hin37 _ _ _ hI (lv_sub hl [1, 2, 3, 0] rfl)
            · replace hw := hw.2 (bi_n c36)
              refine lv_iload E.1 E.2.1 dJ2_indexOfRange_60 (lv_at hl 3 rfl) ?_
              exact hv_ireti E hr hlocks hI (Nat.le_refl 0) hw dJ2_indexOfRange_62
    exact L24 n26 _ _ hi39 _ _ _ hI (lv_sub hl [3, 5, 1, 0] rfl)
  · replace hw := hw.1 c2
    refine lv_iload_n E.1 E.2.1 dJ2_indexOfRange_10 rfl (lv_at hl 3 rfl) ?_
    refine lv_istore (lv' := [(5, .int (i2)), (4, va_rf f1), (0, va_rf (some a0)), (1, va_rf p1), (2, .int (i2)), (3, .int (i3))]) E.1 E.2.1 dJ2_indexOfRange_11 hl (Nat.le_of_ble_eq_true rfl) (by first | rfl | decide | (simp [va_rf_cat, int_cat, long_cat]; done) | (simp [va_rf_cat, int_cat, long_cat]; decide)) (fun ls hl => ?_)
    obtain ⟨I4, ⟨n10, hi19⟩, hb18⟩ := hw
    have L8 : ∀ (n5 : Nat) (y6 : HS) (x9 : Int32), I4 n5 y6 x9 → ∀ (H : Heap) (locs : List Loc) (ls : Array Slot), HI G y0 y6 s H locs → lv_has ls 6 [(3, .int (i3)), (4, va_rf f1), (5, .int (x9))] → W p l e (rmB (d + 2) 0) s m args below meth c H locs 0 (20 * 0) (vx_MQ below (hQi G y0 post) (hX G y0 (fun _ _ _ => False)) args s 0 (20 * 0) (HA y0)) (F0 m 13 ls []) := by
      intro n5
      induction n5 using Nat.strongRecOn with
      | _ n5 ih7 =>
        intro y6 x9 hw H locs ls hI hl
        replace hw := hb18 n5 y6 x9 hw
        refine lv_iload E.1 E.2.1 dJ2_indexOfRange_13 (lv_at hl 2 rfl) ?_
        refine lv_iload_n E.1 E.2.1 dJ2_indexOfRange_15 rfl (lv_at hl 0 rfl) ?_
        refine lv_icmp_ge (tgt := 36) E.1 E.2.1 dJ2_indexOfRange_16 (by decide) (fun c11 => ?_) (fun c11 => ?_)
        · replace hw := hw.1 (c11)
          refine lv_goto (tgt := 69) E.1 E.2.1 dJ2_indexOfRange_36 (by decide) ?_
          refine lv_iconst (v := (-1)) E.1 E.2.1 dJ2_indexOfRange_69 rfl ?_
          exact hv_ireti E hr hlocks hI (Nat.le_refl 0) hw dJ2_indexOfRange_70
        · replace hw := hw.2 (c11)
          refine hv_aload (r := f1) E.1 E.2.1 dJ2_indexOfRange_19 (lv_at hl 1 rfl) ?_
          refine lv_iload E.1 E.2.1 dJ2_indexOfRange_21 (lv_at hl 2 rfl) ?_
          obtain ⟨a12, ea12, hw⟩ := hw
          revert hl hw; subst ea12; intro hl hw
          obtain ⟨n13, g14, hra, hin, hw⟩ := hw
          refine hv_aald E hK hI hra rfl rfl hin dJ2_indexOfRange_23 ?_
          refine hv_ifnonnull (r := g14 x9.toNatClampNeg) (tgt := 30) E.1 E.2.1 dJ2_indexOfRange_24 (by decide) (fun a16 c15 => ?_) (fun c15 => ?_)
          · replace hw := hw.2 a16 c15
            refine lv_iinc (k := 2) (v := x9 + nI 1) (lv' := [(5, .int (x9 + nI 1)), (3, .int (i3)), (4, va_rf (some a12))]) E.1 E.2.1 dJ2_indexOfRange_30 hl rfl rfl (Nat.le_of_ble_eq_true rfl) (by first | rfl | decide | (simp [va_rf_cat, int_cat, long_cat]; done) | (simp [va_rf_cat, int_cat, long_cat]; decide)) (fun ls hl => ?_)
            refine lv_goto (tgt := 13) E.1 E.2.1 dJ2_indexOfRange_33 (by decide) ?_
            obtain ⟨n17, hnn17, hin17⟩ := hw
            exact ih7 n17 hnn17 _ _ hin17 _ _ _ hI (lv_sub hl [1, 2, 0] rfl)
          · replace hw := hw.1 c15
            refine lv_iload E.1 E.2.1 dJ2_indexOfRange_27 (lv_at hl 2 rfl) ?_
            exact hv_ireti E hr hlocks hI (Nat.le_refl 0) hw dJ2_indexOfRange_29
    exact L8 n10 _ _ hi19 _ _ _ hI (lv_sub hl [5, 1, 0] rfl)
/-- java/util/ArrayList.indexOf(Ljava/lang/Object;)I -/
def wp_J2_indexOf (G : GP) (post : Int32 → HS → Prop) (y0 : HS) (a0 : Nat) (p1 : Option Nat) : Prop := ∃ f1, fI y0 a0 18 2 f1 ∧ (∃ fs4, rd G y0 a0 (ob 18 fs4)) ∧ wp_J2_indexOfRange G (fun x3 y2 => post x3 y2) y0 a0 p1 (nI 0) f1
theorem hs_J2_indexOf : yJ2_indexOf.cls ≠ "java/lang/invoke/MethodHandle" ∧ yJ2_indexOf.cls ≠ "java/lang/invoke/VarHandle" ∧ (parseMethodDescriptor yJ2_indexOf.desc).map (fun d => d.parameters.length) = some 1 := by decide +kernel
theorem hd_J2_indexOf : yJ2_indexOf.cls = RJ2 ∧ yJ2_indexOf.cls ≠ "java/lang/invoke/MethodHandle" ∧ yJ2_indexOf.cls ≠ "java/lang/invoke/VarHandle" ∧ (parseMethodDescriptor yJ2_indexOf.desc).map (fun d => d.parameters.length) = some 1 := by decide +kernel
set_option maxHeartbeats 4000000 in
theorem met_J2_indexOf (l : Launch) (G : GP) (d : Nat) {post : Int32 → HS → Prop} {y0 : HS} {a0 : Nat} {p1 : Option Nat} (hw : wp_J2_indexOf G post y0 a0 p1) : vx_Met l yJ2_indexOf (ws_ yJ2_indexOf cJ2_indexOf 2 (some .int)) (rmB (d + 3) 0) (hPc G y0 [va_rf (some a0), va_rf p1]) (hQi G y0 post) (hX G y0 (fun _ _ _ => False)) 0 (20 * 0) (HA y0) := by
  unfold wp_J2_indexOf at hw
  refine hv_met (own := RJ2) (by decide) rfl (by simp [lg_sl, va_rf_cat, int_cat, long_cat]) ?_
  intro p e s m args below meth c ls E hr hlocks hnm hE hK hI hl
  replace hl : lv_has ls 2 [(0, va_rf (some a0)), (1, va_rf p1)] := by simpa [lv_args, va_rf_cat, int_cat, long_cat] using hl
  refine hv_aload_n (r := some a0) E.1 E.2.1 dJ2_indexOf_0 rfl (lv_at hl 0 rfl) ?_
  refine hv_aload_n (r := p1) E.1 E.2.1 dJ2_indexOf_1 rfl (lv_at hl 1 rfl) ?_
  refine lv_iconst (v := nI 0) E.1 E.2.1 dJ2_indexOf_2 rfl ?_
  refine hv_aload_n (r := some a0) E.1 E.2.1 dJ2_indexOf_3 rfl (lv_at hl 0 rfl) ?_
  obtain ⟨f1, ⟨fs, hfs, hfk⟩, hw⟩ := hw
  refine hv_get (v := .int f1) E hK hI ciJ2 2 (Nat.le_of_ble_eq_true rfl) q217 (fun _ h => h) (Or.inl hfs) hfk dJ2_indexOf_4 ?_
  obtain ⟨⟨fs4, hrv⟩, hw⟩ := hw
  have hq := hw
  clear hw
  refine hv_calli (u := 0) (B1 := 0) hI (vx_runV (As := [va_rf p1, .int (nI 0), .int (f1)]) (rest := []) E (met_J2_indexOfRange l G (d) hq) (cwV 3 E.2.2.2.2 (lw_V q1517 q1518 q1519 q124 q1520) rfl rfl rfl hd_J2_indexOfRange (rm_ok (by omega) (by decide))) (hv_preV hK hI hrv rfl) rfl rfl hl.1 rfl (lv_room (by first | rfl | decide | (simp [va_rf_cat, int_cat, long_cat]; done) | (simp [va_rf_cat, int_cat, long_cat]; decide))) dJ2_indexOf_7 (hv_fit (by first | exact (Nat.le_refl 0) | omega))) (fun _ _ _ _ _ h => h.elim) (fun x3 y2 H locs hw hI => ?_)
  exact hv_ireti E hr hlocks hI (Nat.le_refl 0) hw dJ2_indexOf_10
/-- java/util/ArrayList.contains(Ljava/lang/Object;)Z -/
def wp_J2_contains (G : GP) (post : Bool → HS → Prop) (y0 : HS) (a0 : Nat) (p1 : Option Nat) : Prop := (∃ fs3, rd G y0 a0 (ob 18 fs3)) ∧ wp_J2_indexOf G (fun x2 y1 => (x2 < 0 → post false y1) ∧ (¬ x2 < 0 → post true y1)) y0 a0 p1
theorem hs_J2_contains : yJ2_contains.cls ≠ "java/lang/invoke/MethodHandle" ∧ yJ2_contains.cls ≠ "java/lang/invoke/VarHandle" ∧ (parseMethodDescriptor yJ2_contains.desc).map (fun d => d.parameters.length) = some 1 := by decide +kernel
theorem hd_J2_contains : yJ2_contains.cls = RJ2 ∧ yJ2_contains.cls ≠ "java/lang/invoke/MethodHandle" ∧ yJ2_contains.cls ≠ "java/lang/invoke/VarHandle" ∧ (parseMethodDescriptor yJ2_contains.desc).map (fun d => d.parameters.length) = some 1 := by decide +kernel
set_option maxHeartbeats 4000000 in
theorem met_J2_contains (l : Launch) (G : GP) (d : Nat) {post : Bool → HS → Prop} {y0 : HS} {a0 : Nat} {p1 : Option Nat} (hw : wp_J2_contains G post y0 a0 p1) : vx_Met l yJ2_contains (ws_ yJ2_contains cJ2_contains 2 (some .boolean)) (rmB (d + 4) 0) (hPc G y0 [va_rf (some a0), va_rf p1]) (hQz G y0 post) (hX G y0 (fun _ _ _ => False)) 0 (20 * 0) (HA y0) := by
  unfold wp_J2_contains at hw
  refine hv_met (own := RJ2) (by decide) rfl (by simp [lg_sl, va_rf_cat, int_cat, long_cat]) ?_
  intro p e s m args below meth c ls E hr hlocks hnm hE hK hI hl
  replace hl : lv_has ls 2 [(0, va_rf (some a0)), (1, va_rf p1)] := by simpa [lv_args, va_rf_cat, int_cat, long_cat] using hl
  refine hv_aload_n (r := some a0) E.1 E.2.1 dJ2_contains_0 rfl (lv_at hl 0 rfl) ?_
  refine hv_aload_n (r := p1) E.1 E.2.1 dJ2_contains_1 rfl (lv_at hl 1 rfl) ?_
  obtain ⟨⟨fs3, hrv⟩, hw⟩ := hw
  have hq := hw
  clear hw
  refine hv_calli (u := 0) (B1 := 0) hI (vx_runV (As := [va_rf p1]) (rest := []) E (met_J2_indexOf l G (d) hq) (cwV 1 E.2.2.2.2 (lw_V q1513 q1514 q1515 q124 q1516) rfl rfl rfl hd_J2_indexOf (rm_ok (by omega) (by decide))) (hv_preV hK hI hrv rfl) rfl rfl hl.1 rfl (lv_room (by first | rfl | decide | (simp [va_rf_cat, int_cat, long_cat]; done) | (simp [va_rf_cat, int_cat, long_cat]; decide))) dJ2_contains_2 (hv_fit (by first | exact (Nat.le_refl 0) | omega))) (fun _ _ _ _ _ h => h.elim) (fun x2 y1 H locs hw hI => ?_)
  refine lv_if_lt (tgt := 12) E.1 E.2.1 dJ2_contains_5 (by decide) (fun c4 => ?_) (fun c4 => ?_)
  · replace hw := hw.1 (c4)
    refine lv_iconst (v := nI 0) E.1 E.2.1 dJ2_contains_12 rfl ?_
    exact hv_iretz (b := false) E hr hlocks hI (Nat.le_refl 0) rfl hw dJ2_contains_13
  · replace hw := hw.2 (c4)
    refine lv_iconst (v := nI 1) E.1 E.2.1 dJ2_contains_8 rfl ?_
    refine lv_goto (tgt := 13) E.1 E.2.1 dJ2_contains_9 (by decide) ?_
    exact hv_iretz (b := true) E hr hlocks hI (Nat.le_refl 0) rfl hw dJ2_contains_13
/-- java/util/ArrayList.rangeCheckForAdd(I)V -/
def wp_J2_rangeCheckForAdd (G : GP) (post : HS → Prop) (y0 : HS) (a0 : Nat) (i1 : Int32) : Prop := ∃ J1 : HS → Prop, (∀ (y3 : HS), J1 y3  → False) ∧ (∃ f4, fI y0 a0 18 2 f4 ∧ (f4 < i1 → J1 y0 ) ∧ (¬ f4 < i1 → (0 ≤ i1 → post y0) ∧ (¬ 0 ≤ i1 → J1 y0 )))
theorem hs_J2_rangeCheckForAdd : yJ2_rangeCheckForAdd.cls ≠ "java/lang/invoke/MethodHandle" ∧ yJ2_rangeCheckForAdd.cls ≠ "java/lang/invoke/VarHandle" ∧ (parseMethodDescriptor yJ2_rangeCheckForAdd.desc).map (fun d => d.parameters.length) = some 1 := by decide +kernel
theorem hd_J2_rangeCheckForAdd : yJ2_rangeCheckForAdd.cls = RJ2 ∧ yJ2_rangeCheckForAdd.cls ≠ "java/lang/invoke/MethodHandle" ∧ yJ2_rangeCheckForAdd.cls ≠ "java/lang/invoke/VarHandle" ∧ (parseMethodDescriptor yJ2_rangeCheckForAdd.desc).map (fun d => d.parameters.length) = some 1 := by decide +kernel
set_option maxHeartbeats 4000000 in
theorem met_J2_rangeCheckForAdd (l : Launch) (G : GP) (d : Nat) {post : HS → Prop} {y0 : HS} {a0 : Nat} {i1 : Int32} (hw : wp_J2_rangeCheckForAdd G post y0 a0 i1) : vx_Met l yJ2_rangeCheckForAdd (ws_ yJ2_rangeCheckForAdd cJ2_rangeCheckForAdd 2 none) (rmB (d + 0) 0) (hPc G y0 [va_rf (some a0), .int (i1)]) (hQv G y0 post) (hX G y0 (fun _ _ _ => False)) 0 (20 * 0) (HA y0) := by
  unfold wp_J2_rangeCheckForAdd at hw
  refine hv_met (own := RJ2) (by decide) rfl (Nat.le_of_ble_eq_true rfl) ?_
  intro p e s m args below meth c ls E hr hlocks hnm hE hK hI hl
  replace hl : lv_has ls 2 [(0, va_rf (some a0)), (1, .int (i1))] := hl
  obtain ⟨J1, hj7, hw⟩ := hw
  have jh2 : ∀ (y3 : HS), J1 y3  → ∀ (H : Heap) (locs : List Loc) (ls : Array Slot), HI G y0 y3 s H locs → lv_has ls 2 [] → W p l e (rmB (d + 0) 0) s m args below meth c H locs 0 (20 * 0) (vx_MQ below (hQv G y0 post) (hX G y0 (fun _ _ _ => False)) args s 0 (20 * 0) (HA y0)) (F0 m 12 ls []) := by
    intro y3 hw H locs ls hI hl
    replace hw := hj7 y3 hw
    exact hw.elim
  refine lv_iload_n E.1 E.2.1 dJ2_rangeCheckForAdd_0 rfl (lv_at hl 1 rfl) ?_
  refine hv_aload_n (r := some a0) E.1 E.2.1 dJ2_rangeCheckForAdd_1 rfl (lv_at hl 0 rfl) ?_
  obtain ⟨f4, ⟨fs, hfs, hfk⟩, hw⟩ := hw
  refine hv_get (v := .int f4) E hK hI ciJ2 2 (Nat.le_of_ble_eq_true rfl) q217 (fun _ h => h) (Or.inl hfs) hfk dJ2_rangeCheckForAdd_2 ?_
  refine lv_icmp_gt (tgt := 12) E.1 E.2.1 dJ2_rangeCheckForAdd_5 (by decide) (fun c5 => ?_) (fun c5 => ?_)
  · replace hw := hw.1 (c5)
    exact jh2 _ hw _ _ _ hI (lv_sub hl [] rfl)
  · replace hw := hw.2 (c5)
    refine lv_iload_n E.1 E.2.1 dJ2_rangeCheckForAdd_8 rfl (lv_at hl 1 rfl) ?_
    refine lv_if_ge (tgt := 25) E.1 E.2.1 dJ2_rangeCheckForAdd_9 (by decide) (fun c6 => ?_) (fun c6 => ?_)
    · replace hw := hw.1 (c6)
      exact hv_vret E hr hlocks hI (Nat.le_refl 0) hw dJ2_rangeCheckForAdd_25
    · replace hw := hw.2 (c6)
      exact jh2 _ hw _ _ _ hI (lv_sub hl [] rfl)
/-- java/util/ArrayList.add(ILjava/lang/Object;)V -/
def wp_J2_add_3 (G : GP) (B : Nat) (post : HS → Prop) (y0 : HS) (a0 : Nat) (i1 : Int32) (p2 : Option Nat) : Prop := ∃ J1 : HS → Nat → Int32 → (Option Nat) → Prop, (∀ (y3 : HS) (u6 : Nat) (x4 : Int32) (r5 : Option Nat), J1 y3 u6 x4 r5 → u6 ≤ B ∧ ∃ a15, r5 = some a15 ∧ ∃ (n7 n8 k11 k12 k13 : Nat) (g9 g10 : Nat → Option Nat), (x4 - i1 = nI k11 ∧ i1 + (nI 1) = nI k12 ∧ i1 = nI k13) ∧ y3.1 a15 = some (ar 6 n7 g9) ∧ y3.1 a15 = some (ar 6 n8 g10) ∧ k13 + k11 ≤ n7 ∧ k12 + k11 ≤ n8 ∧ n7 < 2 ^ 20 ∧ n8 < 2 ^ 20 ∧ (∀ i, i < k11 → okO G y3 (g9 (k13 + i))) ∧ ∀ y14, y14 = hput y3 a15 (ar 6 n8 (va_cpy g9 g10 k13 k12 k11)) → ∃ (n16 : Nat) (g17 : Nat → Option Nat), y14.1 a15 = some (ar 6 n16 g17) ∧ vp_in i1 n16 ∧ okO G y14 p2 ∧ ∀ y18, y18 = hput y14 a15 (ar 6 n16 (va_up g17 i1.toNatClampNeg p2)) → ∃ fs20, y18.1 a0 = some (ob 18 fs20) ∧ 2 < fs20.length ∧ ∀ y19, y19 = hput y18 a0 (ob 18 (fs20.set 2 (.int (x4 + (nI 1))))) → post y19) ∧ ((∃ fs22, rd G y0 a0 (ob 18 fs22)) ∧ wp_J2_rangeCheckForAdd G (fun y21 => ∃ f23, fI y21 a0 18 0 f23 ∧ ∃ fs25, y21.1 a0 = some (ob 18 fs25) ∧ 0 < fs25.length ∧ ∀ y24, y24 = hput y21 a0 (ob 18 (fs25.set 0 (.int (f23 + (nI 1))))) → ∃ f26, fI y24 a0 18 2 f26 ∧ ∃ f27, fR y24 a0 18 1 f27 ∧ ∃ a28, f27 = some a28 ∧ ∃ (n29 : Nat) (g30 : Nat → Option Nat), rd G y24 a28 (ar 6 n29 g30) ∧ (¬ f26 = (nI n29) → J1 y24 0 f26 (some a28)) ∧ (f26 = (nI n29) → (∃ fs34, rd G y24 a0 (ob 18 fs34)) ∧ ∃ k35, 0 + k35 ≤ B ∧ wp_J2_grow G k35 (fun r33 y32 => J1 y32 ((0 + k35)) f26 r33) y24 a0)) y0 a0 i1)
theorem hs_J2_add_3 : yJ2_add_3.cls ≠ "java/lang/invoke/MethodHandle" ∧ yJ2_add_3.cls ≠ "java/lang/invoke/VarHandle" ∧ (parseMethodDescriptor yJ2_add_3.desc).map (fun d => d.parameters.length) = some 2 := by decide +kernel
theorem hd_J2_add_3 : yJ2_add_3.cls = RJ2 ∧ yJ2_add_3.cls ≠ "java/lang/invoke/MethodHandle" ∧ yJ2_add_3.cls ≠ "java/lang/invoke/VarHandle" ∧ (parseMethodDescriptor yJ2_add_3.desc).map (fun d => d.parameters.length) = some 2 := by decide +kernel
set_option maxHeartbeats 4000000 in
theorem met_J2_add_3 (l : Launch) (G : GP) (d : Nat) {B : Nat} {post : HS → Prop} {y0 : HS} {a0 : Nat} {i1 : Int32} {p2 : Option Nat} (hw : wp_J2_add_3 G B post y0 a0 i1 p2) : vx_Met l yJ2_add_3 (ws_ yJ2_add_3 cJ2_add_3 5 none) (rmB (d + 5) B) (hPc G y0 [va_rf (some a0), .int (i1), va_rf p2]) (hQv G y0 post) (hX G y0 (fun _ _ _ => False)) B (20 * B) (HA y0) := by
  unfold wp_J2_add_3 at hw
  refine hv_met (own := RJ2) (by decide) rfl (by simp [lg_sl, va_rf_cat, int_cat, long_cat]) ?_
  intro p e s m args below meth c ls E hr hlocks hnm hE hK hI hl
  replace hl : lv_has ls 5 [(0, va_rf (some a0)), (1, .int (i1)), (2, va_rf p2)] := by simpa [lv_args, va_rf_cat, int_cat, long_cat] using hl
  have hu : 0 ≤ B := Nat.zero_le _
  obtain ⟨J1, hj36, hw⟩ := hw
  have jh2 : ∀ (y3 : HS) (u6 : Nat) (x4 : Int32) (r5 : Option Nat), J1 y3 u6 x4 r5 → ∀ (H : Heap) (locs : List Loc) (ls : Array Slot), HI G y0 y3 s H locs → lv_has ls 5 [(0, va_rf (some a0)), (1, .int (i1)), (2, va_rf p2), (3, .int (x4)), (4, va_rf r5)] → W p l e (rmB (d + 5) B) s m args below meth c H locs u6 (20 * u6) (vx_MQ below (hQv G y0 post) (hX G y0 (fun _ _ _ => False)) args s B (20 * B) (HA y0)) (F0 m 38 ls []) := by
    intro y3 u6 x4 r5 hw H locs ls hI hl
    replace hw := hj36 y3 u6 x4 r5 hw
    obtain ⟨hu, hw⟩ := hw
    refine hv_aload (r := r5) E.1 E.2.1 dJ2_add_3_38 (lv_at hl 4 rfl) ?_
    refine lv_iload_n E.1 E.2.1 dJ2_add_3_40 rfl (lv_at hl 1 rfl) ?_
    refine hv_aload (r := r5) E.1 E.2.1 dJ2_add_3_41 (lv_at hl 4 rfl) ?_
    refine lv_iload_n E.1 E.2.1 dJ2_add_3_43 rfl (lv_at hl 1 rfl) ?_
    refine lv_iconst (v := nI 1) E.1 E.2.1 dJ2_add_3_44 rfl ?_
    refine lv_iadd E.1 E.2.1 dJ2_add_3_45 ?_
    refine lv_iload_n E.1 E.2.1 dJ2_add_3_46 rfl (lv_at hl 3 rfl) ?_
    refine lv_iload_n E.1 E.2.1 dJ2_add_3_47 rfl (lv_at hl 1 rfl) ?_
    refine lv_isub E.1 E.2.1 dJ2_add_3_48 ?_
    obtain ⟨a15, ea15, hw⟩ := hw
    revert hl hw; subst ea15; intro hl hw
    obtain ⟨n7, n8, k11, k12, k13, g9, g10, ⟨e3, e4, e5⟩, h1, h2, h3, h4, h5, h6, h7, hw⟩ := hw
    refine W.eq (g2 := F0 m 49 ls (.int (nI k11) :: .int (nI k12) :: va_rf (some a15) :: .int (nI k13) :: va_rf (some a15) :: [])) (by first | rw [← e3, ← e4, ← e5] | rw [e3, e4, e5]) ?_
    refine hv_copyq E hK hI q1574 q415 q414 q137 hl.1 h1 h2 h3 h4 h5 h6 h7 (by first | rfl | decide | (simp [va_rf_cat, int_cat, long_cat]; done) | (simp [va_rf_cat, int_cat, long_cat]; decide)) dJ2_add_3_49 (fun H locs hI => ?_)
    obtain ⟨y14, ey14⟩ : ∃ w, w = hput y3 a15 (ar 6 n8 (va_cpy g9 g10 k13 k12 k11)) := ⟨_, rfl⟩
    rw [← ey14] at hI
    replace hw := hw y14 ey14
    refine hv_aload (r := some a15) E.1 E.2.1 dJ2_add_3_52 (lv_at hl 4 rfl) ?_
    refine lv_iload_n E.1 E.2.1 dJ2_add_3_54 rfl (lv_at hl 1 rfl) ?_
    refine hv_aload_n (r := p2) E.1 E.2.1 dJ2_add_3_55 rfl (lv_at hl 2 rfl) ?_
    obtain ⟨n16, g17, hra, hin, hok, hw⟩ := hw
    refine hv_aast6 E hK hI hra hin hok dJ2_add_3_56 (fun H locs hI => ?_)
    obtain ⟨y18, ey18⟩ : ∃ w, w = hput y14 a15 (ar 6 n16 (va_up g17 i1.toNatClampNeg p2)) := ⟨_, rfl⟩
    rw [← ey18] at hI
    replace hw := hw y18 ey18
    refine hv_aload_n (r := some a0) E.1 E.2.1 dJ2_add_3_57 rfl (lv_at hl 0 rfl) ?_
    refine lv_iload_n E.1 E.2.1 dJ2_add_3_58 rfl (lv_at hl 3 rfl) ?_
    refine lv_iconst (v := nI 1) E.1 E.2.1 dJ2_add_3_59 rfl ?_
    refine lv_iadd E.1 E.2.1 dJ2_add_3_60 ?_
    obtain ⟨fs20, hfs, hln, hw⟩ := hw
    refine hv_put (v := .int (x4 + (nI 1))) E hK hI ciJ2 2 (Nat.le_of_ble_eq_true rfl) q217 (fun _ h => h) rfl rfl rfl hfs hln dJ2_add_3_61 (fun H locs hI => ?_)
    obtain ⟨y19, ey19⟩ : ∃ w, w = hput y18 a0 (ob 18 (fs20.set 2 (.int (x4 + (nI 1))))) := ⟨_, rfl⟩
    rw [← ey19] at hI
    replace hw := hw y19 ey19
    exact hv_vret E hr hlocks hI hu hw dJ2_add_3_64
  refine hv_aload_n (r := some a0) E.1 E.2.1 dJ2_add_3_0 rfl (lv_at hl 0 rfl) ?_
  refine lv_iload_n E.1 E.2.1 dJ2_add_3_1 rfl (lv_at hl 1 rfl) ?_
  obtain ⟨⟨fs22, hrv⟩, hw⟩ := hw
  have hq := hw
  clear hw
  refine hv_callv (u := 0) (B1 := 0) hI (vx_runV (As := [.int (i1)]) (rest := []) E (met_J2_rangeCheckForAdd l G (d + 4) hq) (cwV 1 E.2.2.2.2 (lw_V q1570 q1572 qs45 q124 q1573) rfl rfl rfl hd_J2_rangeCheckForAdd (rm_ok (by omega) (by decide))) (hv_preV hK hI hrv rfl) rfl rfl hl.1 rfl (lv_room (by first | rfl | decide | (simp [va_rf_cat, int_cat, long_cat]; done) | (simp [va_rf_cat, int_cat, long_cat]; decide))) dJ2_add_3_2 (hv_fit (by first | exact hu | omega))) (fun _ _ _ _ _ h => h.elim) (fun y21 H locs hw hI => ?_)
  refine hv_aload_n (r := some a0) E.1 E.2.1 dJ2_add_3_5 rfl (lv_at hl 0 rfl) ?_
  refine hv_dup E.1 E.2.1 dJ2_add_3_6 ?_
  obtain ⟨f23, ⟨fs, hfs, hfk⟩, hw⟩ := hw
  refine hv_get (v := .int f23) E hK hI ciJ2 0 (Nat.le_of_ble_eq_true rfl) q219 (fun x h => u_same (E.2.2.2.2 _ q220) x h) (Or.inl hfs) hfk dJ2_add_3_7 ?_
  refine lv_iconst (v := nI 1) E.1 E.2.1 dJ2_add_3_10 rfl ?_
  refine lv_iadd E.1 E.2.1 dJ2_add_3_11 ?_
  obtain ⟨fs25, hfs, hln, hw⟩ := hw
  refine hv_put (v := .int (f23 + (nI 1))) E hK hI ciJ2 0 (Nat.le_of_ble_eq_true rfl) q219 (fun x h => u_same (E.2.2.2.2 _ q220) x h) rfl rfl rfl hfs hln dJ2_add_3_12 (fun H locs hI => ?_)
  obtain ⟨y24, ey24⟩ : ∃ w, w = hput y21 a0 (ob 18 (fs25.set 0 (.int (f23 + (nI 1))))) := ⟨_, rfl⟩
  rw [← ey24] at hI
  replace hw := hw y24 ey24
  refine hv_aload_n (r := some a0) E.1 E.2.1 dJ2_add_3_15 rfl (lv_at hl 0 rfl) ?_
  obtain ⟨f26, ⟨fs, hfs, hfk⟩, hw⟩ := hw
  refine hv_get (v := .int f26) E hK hI ciJ2 2 (Nat.le_of_ble_eq_true rfl) q217 (fun _ h => h) (Or.inl hfs) hfk dJ2_add_3_16 ?_
  refine lv_dup E.1 E.2.1 dJ2_add_3_19 rfl ?_
  refine lv_istore_n (lv' := [(3, .int (f26)), (0, va_rf (some a0)), (1, .int (i1)), (2, va_rf p2)]) E.1 E.2.1 dJ2_add_3_20 rfl hl (Nat.le_of_ble_eq_true rfl) (by first | rfl | decide | (simp [va_rf_cat, int_cat, long_cat]; done) | (simp [va_rf_cat, int_cat, long_cat]; decide)) (fun ls hl => ?_)
  refine hv_aload_n (r := some a0) E.1 E.2.1 dJ2_add_3_21 rfl (lv_at hl 1 rfl) ?_
  obtain ⟨f27, ⟨fs, hfs, hfk⟩, hw⟩ := hw
  refine hv_get (v := va_rf f27) E hK hI ciJ2 1 (Nat.le_of_ble_eq_true rfl) q216 (fun _ h => h) (Or.inl hfs) hfk dJ2_add_3_22 ?_
  refine hv_dup E.1 E.2.1 dJ2_add_3_25 ?_
  refine hv_astore (r := f27) (lv' := [(4, va_rf f27), (3, .int (f26)), (0, va_rf (some a0)), (1, .int (i1)), (2, va_rf p2)]) E.1 E.2.1 dJ2_add_3_26 hl (Nat.le_of_ble_eq_true rfl) (by first | rfl | decide | (simp [va_rf_cat, int_cat, long_cat]; done) | (simp [va_rf_cat, int_cat, long_cat]; decide)) (fun ls hl => ?_)
  obtain ⟨a28, ea28, hw⟩ := hw
  revert hl hw; subst ea28; intro hl hw
  obtain ⟨n29, g30, hra, hw⟩ := hw
  refine hv_alen (t := 6) E hK hI hra rfl dJ2_add_3_28 ?_
  refine lv_icmp_ne (tgt := 38) E.1 E.2.1 dJ2_add_3_29 (by decide) (fun c31 => ?_) (fun c31 => ?_)
  · replace hw := hw.1 (c31)
    exact jh2 _ _ _ _ hw _ _ _ hI (lv_sub hl [2, 3, 4, 1, 0] rfl)
  · replace hw := hw.2 (c31)
    refine hv_aload_n (r := some a0) E.1 E.2.1 dJ2_add_3_32 rfl (lv_at hl 2 rfl) ?_
    obtain ⟨⟨fs34, hrv⟩, hw⟩ := hw
    obtain ⟨k35, hB, hw⟩ := hw
    have hq := hw
    clear hw
    refine hv_callq (u := 0) (B1 := k35) hI (vx_runV (As := []) (rest := []) E (met_J2_grow l G (d) hq) (cwV 0 E.2.2.2.2 (lw_V q917 q919 qs21 q124 q920) rfl rfl rfl hd_J2_grow (rm_ok (by omega) (by decide))) (hv_preV hK hI hrv rfl) rfl rfl hl.1 rfl (lv_room (by first | rfl | decide | (simp [va_rf_cat, int_cat, long_cat]; done) | (simp [va_rf_cat, int_cat, long_cat]; decide))) dJ2_add_3_33 (hv_fit (by first | exact hB | omega))) (fun _ _ _ _ _ h => h.elim) (fun r33 y32 H locs hw hI => ?_)
    have hu := hB
    refine hv_astore (r := r33) (lv' := [(4, va_rf r33), (3, .int (f26)), (0, va_rf (some a0)), (1, .int (i1)), (2, va_rf p2)]) E.1 E.2.1 dJ2_add_3_36 hl (Nat.le_of_ble_eq_true rfl) (by first | rfl | decide | (simp [va_rf_cat, int_cat, long_cat]; done) | (simp [va_rf_cat, int_cat, long_cat]; decide)) (fun ls hl => ?_)
    exact jh2 _ _ _ _ hw _ _ _ hI (lv_sub hl [2, 3, 4, 1, 0] rfl)
/-- java/util/ArrayList.fastRemove([Ljava/lang/Object;I)V -/
def wp_J2_fastRemove (G : GP) (post : HS → Prop) (y0 : HS) (a0 : Nat) (p1 : Option Nat) (i2 : Int32) : Prop := ∃ J1 : HS → Int32 → Prop, (∀ (y3 : HS) (x4 : Int32), J1 y3 x4 → ∃ fs6, y3.1 a0 = some (ob 18 fs6) ∧ 2 < fs6.length ∧ ∀ y5, y5 = hput y3 a0 (ob 18 (fs6.set 2 (.int (x4)))) → ∃ a10, p1 = some a10 ∧ ∃ (n7 : Nat) (g8 : Nat → Option Nat), y5.1 a10 = some (ar 6 n7 g8) ∧ vp_in x4 n7 ∧ okO G y5 none ∧ ∀ y9, y9 = hput y5 a10 (ar 6 n7 (va_up g8 x4.toNatClampNeg none)) → post y9) ∧ (∃ f11, fI y0 a0 18 0 f11 ∧ ∃ fs13, y0.1 a0 = some (ob 18 fs13) ∧ 0 < fs13.length ∧ ∀ y12, y12 = hput y0 a0 (ob 18 (fs13.set 0 (.int (f11 + (nI 1))))) → ∃ f14, fI y12 a0 18 2 f14 ∧ ∀ x15, x15 = f14 - (nI 1) → ((f14 - (nI 1)) ≤ i2 → J1 y12 x15) ∧ (¬ (f14 - (nI 1)) ≤ i2 → ∃ a25, p1 = some a25 ∧ ∃ (n17 n18 k21 k22 k23 : Nat) (g19 g20 : Nat → Option Nat), (x15 - i2 = nI k21 ∧ i2 = nI k22 ∧ i2 + (nI 1) = nI k23) ∧ y12.1 a25 = some (ar 6 n17 g19) ∧ y12.1 a25 = some (ar 6 n18 g20) ∧ k23 + k21 ≤ n17 ∧ k22 + k21 ≤ n18 ∧ n17 < 2 ^ 20 ∧ n18 < 2 ^ 20 ∧ (∀ i, i < k21 → okO G y12 (g19 (k23 + i))) ∧ ∀ y24, y24 = hput y12 a25 (ar 6 n18 (va_cpy g19 g20 k23 k22 k21)) → J1 y24 x15))
theorem hs_J2_fastRemove : yJ2_fastRemove.cls ≠ "java/lang/invoke/MethodHandle" ∧ yJ2_fastRemove.cls ≠ "java/lang/invoke/VarHandle" ∧ (parseMethodDescriptor yJ2_fastRemove.desc).map (fun d => d.parameters.length) = some 2 := by decide +kernel
theorem hd_J2_fastRemove : yJ2_fastRemove.cls = RJ2 ∧ yJ2_fastRemove.cls ≠ "java/lang/invoke/MethodHandle" ∧ yJ2_fastRemove.cls ≠ "java/lang/invoke/VarHandle" ∧ (parseMethodDescriptor yJ2_fastRemove.desc).map (fun d => d.parameters.length) = some 2 := by decide +kernel
set_option maxHeartbeats 4000000 in
theorem met_J2_fastRemove (l : Launch) (G : GP) (d : Nat) {post : HS → Prop} {y0 : HS} {a0 : Nat} {p1 : Option Nat} {i2 : Int32} (hw : wp_J2_fastRemove G post y0 a0 p1 i2) : vx_Met l yJ2_fastRemove (ws_ yJ2_fastRemove cJ2_fastRemove 4 none) (rmB (d + 1) 0) (hPc G y0 [va_rf (some a0), va_rf p1, .int (i2)]) (hQv G y0 post) (hX G y0 (fun _ _ _ => False)) 0 (20 * 0) (HA y0) := by
  unfold wp_J2_fastRemove at hw
  refine hv_met (own := RJ2) (by decide) rfl (by simp [lg_sl, va_rf_cat, int_cat, long_cat]) ?_
  intro p e s m args below meth c ls E hr hlocks hnm hE hK hI hl
  replace hl : lv_has ls 4 [(0, va_rf (some a0)), (1, va_rf p1), (2, .int (i2))] := by simpa [lv_args, va_rf_cat, int_cat, long_cat] using hl
  obtain ⟨J1, hj26, hw⟩ := hw
  have jh2 : ∀ (y3 : HS) (x4 : Int32), J1 y3 x4 → ∀ (H : Heap) (locs : List Loc) (ls : Array Slot), HI G y0 y3 s H locs → lv_has ls 4 [(0, va_rf (some a0)), (1, va_rf p1), (3, .int (x4))] → W p l e (rmB (d + 1) 0) s m args below meth c H locs 0 (20 * 0) (vx_MQ below (hQv G y0 post) (hX G y0 (fun _ _ _ => False)) args s 0 (20 * 0) (HA y0)) (F0 m 34 ls []) := by
    intro y3 x4 hw H locs ls hI hl
    replace hw := hj26 y3 x4 hw
    refine hv_aload_n (r := p1) E.1 E.2.1 dJ2_fastRemove_34 rfl (lv_at hl 1 rfl) ?_
    refine hv_aload_n (r := some a0) E.1 E.2.1 dJ2_fastRemove_35 rfl (lv_at hl 0 rfl) ?_
    refine lv_iload_n E.1 E.2.1 dJ2_fastRemove_36 rfl (lv_at hl 2 rfl) ?_
    refine lv_dup_x1 E.1 E.2.1 dJ2_fastRemove_37 rfl (va_rf_cat _) ?_
    obtain ⟨fs6, hfs, hln, hw⟩ := hw
    refine hv_put (v := .int (x4)) E hK hI ciJ2 2 (Nat.le_of_ble_eq_true rfl) q217 (fun _ h => h) rfl rfl rfl hfs hln dJ2_fastRemove_38 (fun H locs hI => ?_)
    obtain ⟨y5, ey5⟩ : ∃ w, w = hput y3 a0 (ob 18 (fs6.set 2 (.int (x4)))) := ⟨_, rfl⟩
    rw [← ey5] at hI
    replace hw := hw y5 ey5
    refine lv_null E.1 E.2.1 dJ2_fastRemove_41 ?_
    obtain ⟨a10, ea10, hw⟩ := hw
    rw [ea10]
    obtain ⟨n7, g8, hra, hin, hok, hw⟩ := hw
    refine hv_aast6 E hK hI hra hin hok dJ2_fastRemove_42 (fun H locs hI => ?_)
    obtain ⟨y9, ey9⟩ : ∃ w, w = hput y5 a10 (ar 6 n7 (va_up g8 x4.toNatClampNeg none)) := ⟨_, rfl⟩
    rw [← ey9] at hI
    replace hw := hw y9 ey9
    exact hv_vret E hr hlocks hI (Nat.le_refl 0) hw dJ2_fastRemove_43
  refine hv_aload_n (r := some a0) E.1 E.2.1 dJ2_fastRemove_0 rfl (lv_at hl 0 rfl) ?_
  refine hv_dup E.1 E.2.1 dJ2_fastRemove_1 ?_
  obtain ⟨f11, ⟨fs, hfs, hfk⟩, hw⟩ := hw
  refine hv_get (v := .int f11) E hK hI ciJ2 0 (Nat.le_of_ble_eq_true rfl) q219 (fun x h => u_same (E.2.2.2.2 _ q220) x h) (Or.inl hfs) hfk dJ2_fastRemove_2 ?_
  refine lv_iconst (v := nI 1) E.1 E.2.1 dJ2_fastRemove_5 rfl ?_
  refine lv_iadd E.1 E.2.1 dJ2_fastRemove_6 ?_
  obtain ⟨fs13, hfs, hln, hw⟩ := hw
  refine hv_put (v := .int (f11 + (nI 1))) E hK hI ciJ2 0 (Nat.le_of_ble_eq_true rfl) q219 (fun x h => u_same (E.2.2.2.2 _ q220) x h) rfl rfl rfl hfs hln dJ2_fastRemove_7 (fun H locs hI => ?_)
  obtain ⟨y12, ey12⟩ : ∃ w, w = hput y0 a0 (ob 18 (fs13.set 0 (.int (f11 + (nI 1))))) := ⟨_, rfl⟩
  rw [← ey12] at hI
  replace hw := hw y12 ey12
  refine hv_aload_n (r := some a0) E.1 E.2.1 dJ2_fastRemove_10 rfl (lv_at hl 0 rfl) ?_
  obtain ⟨f14, ⟨fs, hfs, hfk⟩, hw⟩ := hw
  refine hv_get (v := .int f14) E hK hI ciJ2 2 (Nat.le_of_ble_eq_true rfl) q217 (fun _ h => h) (Or.inl hfs) hfk dJ2_fastRemove_11 ?_
  refine lv_iconst (v := nI 1) E.1 E.2.1 dJ2_fastRemove_14 rfl ?_
  refine lv_isub E.1 E.2.1 dJ2_fastRemove_15 ?_
  refine lv_dup E.1 E.2.1 dJ2_fastRemove_16 rfl ?_
  refine lv_topi (fun x15 ex15 => ?_)
  replace hw := hw x15 ex15
  refine lv_istore_n (lv' := [(3, .int (x15)), (0, va_rf (some a0)), (1, va_rf p1), (2, .int (i2))]) E.1 E.2.1 dJ2_fastRemove_17 rfl hl (Nat.le_of_ble_eq_true rfl) (by first | rfl | decide | (simp [va_rf_cat, int_cat, long_cat]; done) | (simp [va_rf_cat, int_cat, long_cat]; decide)) (fun ls hl => ?_)
  refine lv_iload_n E.1 E.2.1 dJ2_fastRemove_18 rfl (lv_at hl 3 rfl) ?_
  refine lv_icmp_le (tgt := 34) E.1 E.2.1 dJ2_fastRemove_19 (by decide) (fun c16 => ?_) (fun c16 => ?_)
  · replace hw := hw.1 (c16)
    exact jh2 _ _ hw _ _ _ hI (lv_sub hl [1, 2, 0] rfl)
  · replace hw := hw.2 (c16)
    refine hv_aload_n (r := p1) E.1 E.2.1 dJ2_fastRemove_22 rfl (lv_at hl 2 rfl) ?_
    refine lv_iload_n E.1 E.2.1 dJ2_fastRemove_23 rfl (lv_at hl 3 rfl) ?_
    refine lv_iconst (v := nI 1) E.1 E.2.1 dJ2_fastRemove_24 rfl ?_
    refine lv_iadd E.1 E.2.1 dJ2_fastRemove_25 ?_
    refine hv_aload_n (r := p1) E.1 E.2.1 dJ2_fastRemove_26 rfl (lv_at hl 2 rfl) ?_
    refine lv_iload_n E.1 E.2.1 dJ2_fastRemove_27 rfl (lv_at hl 3 rfl) ?_
    refine lv_iload_n E.1 E.2.1 dJ2_fastRemove_28 rfl (lv_at hl 0 rfl) ?_
    refine lv_iload_n E.1 E.2.1 dJ2_fastRemove_29 rfl (lv_at hl 3 rfl) ?_
    refine lv_isub E.1 E.2.1 dJ2_fastRemove_30 ?_
    obtain ⟨a25, ea25, hw⟩ := hw
    revert hl hw; subst ea25; intro hl hw
    obtain ⟨n17, n18, k21, k22, k23, g19, g20, ⟨e3, e4, e5⟩, h1, h2, h3, h4, h5, h6, h7, hw⟩ := hw
    refine W.eq (g2 := F0 m 31 ls (.int (nI k21) :: .int (nI k22) :: va_rf (some a25) :: .int (nI k23) :: va_rf (some a25) :: [])) (by first | rw [← e3, ← e4, ← e5] | rw [e3, e4, e5]) ?_
    refine hv_copyq E hK hI q1574 q415 q414 q137 hl.1 h1 h2 h3 h4 h5 h6 h7 (by first | rfl | decide | (simp [va_rf_cat, int_cat, long_cat]; done) | (simp [va_rf_cat, int_cat, long_cat]; decide)) dJ2_fastRemove_31 (fun H locs hI => ?_)
    obtain ⟨y24, ey24⟩ : ∃ w, w = hput y12 a25 (ar 6 n18 (va_cpy g19 g20 k23 k22 k21)) := ⟨_, rfl⟩
    rw [← ey24] at hI
    replace hw := hw y24 ey24
    exact jh2 _ _ hw _ _ _ hI (lv_sub hl [1, 2, 0] rfl)
/-- java/util/ArrayList.remove(Ljava/lang/Object;)Z -/
def wp_J2_remove (G : GP) (post : Bool → HS → Prop) (y0 : HS) (a0 : Nat) (p1 : Option Nat) : Prop := ∃ J1 : HS → (Option Nat) → Int32 → Prop, (∀ (y3 : HS) (r4 : Option Nat) (x5 : Int32), J1 y3 r4 x5 → (∃ fs7, rd G y3 a0 (ob 18 fs7)) ∧ wp_J2_fastRemove G (fun y6 => post true y6) y3 a0 r4 x5) ∧ (∃ f8, fR y0 a0 18 1 f8 ∧ ∃ f9, fI y0 a0 18 2 f9 ∧ (p1 = none → ∃ I12 : Nat → HS → Int32 → Prop, (∃ n18, I12 n18 y0 (nI 0)) ∧ ∀ (n13 : Nat) (y14 : HS) (x17 : Int32), I12 n13 y14 x17 → (f9 ≤ x17 → post false y14) ∧ (¬ f9 ≤ x17 → ∃ a20, f8 = some a20 ∧ ∃ (n21 : Nat) (g22 : Nat → Option Nat), rd G y14 a20 (ar 6 n21 g22) ∧ vp_in x17 n21 ∧ (g22 x17.toNatClampNeg = none → J1 y14 (some a20) x17) ∧ (∀ a24, g22 x17.toNatClampNeg = some a24 → ∃ n25, n25 < n13 ∧ I12 n25 y14 (x17 + nI 1)))) ∧ (∀ a11, p1 = some a11 → ∃ I28 : Nat → HS → Int32 → Prop, (∃ n34, I28 n34 y0 (nI 0)) ∧ ∀ (n29 : Nat) (y30 : HS) (x33 : Int32), I28 n29 y30 x33 → (f9 ≤ x33 → post false y30) ∧ (¬ f9 ≤ x33 → ∃ a36, f8 = some a36 ∧ ∃ (n37 : Nat) (g38 : Nat → Option Nat), rd G y30 a36 (ar 6 n37 g38) ∧ vp_in x33 n37 ∧ ∃ K39 : Bool → HS → Prop, (∀ (b41 : Bool) (y40 : HS), K39 b41 y40 → (b41 = false → ∃ n45, n45 < n29 ∧ I28 n45 y40 (x33 + nI 1)) ∧ (b41 = true → J1 y40 (some a36) x33)) ∧ (((∃ fs42, rd G y30 a11 (ob 21 fs42)) ∧ wp_J13_equals G K39 y30 a11 (g38 x33.toNatClampNeg))))))
theorem hs_J2_remove : yJ2_remove.cls ≠ "java/lang/invoke/MethodHandle" ∧ yJ2_remove.cls ≠ "java/lang/invoke/VarHandle" ∧ (parseMethodDescriptor yJ2_remove.desc).map (fun d => d.parameters.length) = some 1 := by decide +kernel
theorem hd_J2_remove : yJ2_remove.cls = RJ2 ∧ yJ2_remove.cls ≠ "java/lang/invoke/MethodHandle" ∧ yJ2_remove.cls ≠ "java/lang/invoke/VarHandle" ∧ (parseMethodDescriptor yJ2_remove.desc).map (fun d => d.parameters.length) = some 1 := by decide +kernel
set_option maxHeartbeats 4000000 in
theorem met_J2_remove (l : Launch) (G : GP) (d : Nat) {post : Bool → HS → Prop} {y0 : HS} {a0 : Nat} {p1 : Option Nat} (hw : wp_J2_remove G post y0 a0 p1) : vx_Met l yJ2_remove (ws_ yJ2_remove cJ2_remove 5 (some .boolean)) (rmB (d + 2) 0) (hPc G y0 [va_rf (some a0), va_rf p1]) (hQz G y0 post) (hX G y0 (fun _ _ _ => False)) 0 (20 * 0) (HA y0) := by
  unfold wp_J2_remove at hw
  refine hv_met (own := RJ2) (by decide) rfl (by simp [lg_sl, va_rf_cat, int_cat, long_cat]) ?_
  intro p e s m args below meth c ls E hr hlocks hnm hE hK hI hl
  replace hl : lv_has ls 5 [(0, va_rf (some a0)), (1, va_rf p1)] := by simpa [lv_args, va_rf_cat, int_cat, long_cat] using hl
  obtain ⟨J1, hj48, hw⟩ := hw
  have jh2 : ∀ (y3 : HS) (r4 : Option Nat) (x5 : Int32), J1 y3 r4 x5 → ∀ (H : Heap) (locs : List Loc) (ls : Array Slot), HI G y0 y3 s H locs → lv_has ls 5 [(0, va_rf (some a0)), (2, va_rf r4), (4, .int (x5))] → W p l e (rmB (d + 2) 0) s m args below meth c H locs 0 (20 * 0) (vx_MQ below (hQz G y0 post) (hX G y0 (fun _ _ _ => False)) args s 0 (20 * 0) (HA y0)) (F0 m 67 ls []) := by
    intro y3 r4 x5 hw H locs ls hI hl
    replace hw := hj48 y3 r4 x5 hw
    refine hv_aload_n (r := some a0) E.1 E.2.1 dJ2_remove_67 rfl (lv_at hl 0 rfl) ?_
    refine hv_aload_n (r := r4) E.1 E.2.1 dJ2_remove_68 rfl (lv_at hl 1 rfl) ?_
    refine lv_iload E.1 E.2.1 dJ2_remove_69 (lv_at hl 2 rfl) ?_
    obtain ⟨⟨fs7, hrv⟩, hw⟩ := hw
    have hq := hw
    clear hw
    refine hv_callv (u := 0) (B1 := 0) hI (vx_runV (As := [va_rf r4, .int (x5)]) (rest := []) E (met_J2_fastRemove l G (d) hq) (cwV 2 E.2.2.2.2 (lw_V q1588 q1590 qs46 q124 q1591) rfl rfl rfl hd_J2_fastRemove (rm_ok (by omega) (by decide))) (hv_preV hK hI hrv rfl) rfl rfl hl.1 rfl (lv_room (by first | rfl | decide | (simp [va_rf_cat, int_cat, long_cat]; done) | (simp [va_rf_cat, int_cat, long_cat]; decide))) dJ2_remove_71 (hv_fit (by first | exact (Nat.le_refl 0) | omega))) (fun _ _ _ _ _ h => h.elim) (fun y6 H locs hw hI => ?_)
    refine lv_iconst (v := nI 1) E.1 E.2.1 dJ2_remove_74 rfl ?_
    exact hv_iretz (b := true) E hr hlocks hI (Nat.le_refl 0) rfl hw dJ2_remove_75
  refine hv_aload_n (r := some a0) E.1 E.2.1 dJ2_remove_0 rfl (lv_at hl 0 rfl) ?_
  obtain ⟨f8, ⟨fs, hfs, hfk⟩, hw⟩ := hw
  refine hv_get (v := va_rf f8) E hK hI ciJ2 1 (Nat.le_of_ble_eq_true rfl) q216 (fun _ h => h) (Or.inl hfs) hfk dJ2_remove_1 ?_
  refine hv_astore_n (r := f8) (lv' := [(2, va_rf f8), (0, va_rf (some a0)), (1, va_rf p1)]) E.1 E.2.1 dJ2_remove_4 rfl hl (Nat.le_of_ble_eq_true rfl) (by first | rfl | decide | (simp [va_rf_cat, int_cat, long_cat]; done) | (simp [va_rf_cat, int_cat, long_cat]; decide)) (fun ls hl => ?_)
  refine hv_aload_n (r := some a0) E.1 E.2.1 dJ2_remove_5 rfl (lv_at hl 1 rfl) ?_
  obtain ⟨f9, ⟨fs, hfs, hfk⟩, hw⟩ := hw
  refine hv_get (v := .int f9) E hK hI ciJ2 2 (Nat.le_of_ble_eq_true rfl) q217 (fun _ h => h) (Or.inl hfs) hfk dJ2_remove_6 ?_
  refine lv_istore_n (lv' := [(3, .int (f9)), (2, va_rf f8), (0, va_rf (some a0)), (1, va_rf p1)]) E.1 E.2.1 dJ2_remove_9 rfl hl (Nat.le_of_ble_eq_true rfl) (by first | rfl | decide | (simp [va_rf_cat, int_cat, long_cat]; done) | (simp [va_rf_cat, int_cat, long_cat]; decide)) (fun ls hl => ?_)
  refine lv_iconst (v := nI 0) E.1 E.2.1 dJ2_remove_10 rfl ?_
  refine lv_istore (lv' := [(4, .int (nI 0)), (3, .int (f9)), (2, va_rf f8), (0, va_rf (some a0)), (1, va_rf p1)]) E.1 E.2.1 dJ2_remove_11 hl (Nat.le_of_ble_eq_true rfl) (by first | rfl | decide | (simp [va_rf_cat, int_cat, long_cat]; done) | (simp [va_rf_cat, int_cat, long_cat]; decide)) (fun ls hl => ?_)
  refine hv_aload_n (r := p1) E.1 E.2.1 dJ2_remove_13 rfl (lv_at hl 4 rfl) ?_
  refine hv_ifnonnull (r := p1) (tgt := 39) E.1 E.2.1 dJ2_remove_14 (by decide) (fun a11 c10 => ?_) (fun c10 => ?_)
  · replace hw := hw.2 a11 c10
    revert hl hw; subst c10; intro hl hw
    obtain ⟨I28, ⟨n34, hi47⟩, hb46⟩ := hw
    have L32 : ∀ (n29 : Nat) (y30 : HS) (x33 : Int32), I28 n29 y30 x33 → ∀ (H : Heap) (locs : List Loc) (ls : Array Slot), HI G y0 y30 s H locs → lv_has ls 5 [(0, va_rf (some a0)), (1, va_rf (some a11)), (2, va_rf f8), (3, .int (f9)), (4, .int (x33))] → W p l e (rmB (d + 2) 0) s m args below meth c H locs 0 (20 * 0) (vx_MQ below (hQz G y0 post) (hX G y0 (fun _ _ _ => False)) args s 0 (20 * 0) (HA y0)) (F0 m 39 ls []) := by
      intro n29
      induction n29 using Nat.strongRecOn with
      | _ n29 ih31 =>
        intro y30 x33 hw H locs ls hI hl
        replace hw := hb46 n29 y30 x33 hw
        refine lv_iload E.1 E.2.1 dJ2_remove_39 (lv_at hl 4 rfl) ?_
        refine lv_iload_n E.1 E.2.1 dJ2_remove_41 rfl (lv_at hl 3 rfl) ?_
        refine lv_icmp_ge (tgt := 65) E.1 E.2.1 dJ2_remove_42 (by decide) (fun c35 => ?_) (fun c35 => ?_)
        · replace hw := hw.1 (c35)
          refine lv_iconst (v := nI 0) E.1 E.2.1 dJ2_remove_65 rfl ?_
          exact hv_iretz (b := false) E hr hlocks hI (Nat.le_refl 0) rfl hw dJ2_remove_66
        · replace hw := hw.2 (c35)
          refine hv_aload_n (r := some a11) E.1 E.2.1 dJ2_remove_45 rfl (lv_at hl 1 rfl) ?_
          refine hv_aload_n (r := f8) E.1 E.2.1 dJ2_remove_46 rfl (lv_at hl 2 rfl) ?_
          refine lv_iload E.1 E.2.1 dJ2_remove_47 (lv_at hl 4 rfl) ?_
          obtain ⟨a36, ea36, hw⟩ := hw
          revert hl hw; subst ea36; intro hl hw
          obtain ⟨n37, g38, hra, hin, hw⟩ := hw
          refine hv_aald E hK hI hra rfl rfl hin dJ2_remove_49 ?_
          obtain ⟨K39, hk43, hw⟩ := hw
          rcases hw with ⟨⟨fs42, hrv⟩, hw⟩
          · have hq := hw
            clear hw
            refine hv_callz (u := 0) (B1 := 0) hI (vx_runU (C := "java/lang/Integer") (owner := "java/lang/Object") (x := ⟨"java/lang/Object", "equals", "(Ljava/lang/Object;)Z"⟩) (As := [va_rf (g38 x33.toNatClampNeg)]) (rest := []) E (met_J13_equals l G (d) hq) (cw_any 1 E.2.2.2.2 (lw_meth q1551) rfl rfl q1522 q1524 (E.2.2.2.2 _ q1549) q1550 q141 (va_Decl.of (E.2.2.2.2 _ q1523) (E.2.2.2.2 _ q1557)) (by decide +kernel) (rm_ok (by omega) (by decide))) (hv_preV hK hI hrv rfl) rfl rfl hl.1 rfl (lv_room (by first | rfl | decide | (simp [va_rf_cat, int_cat, long_cat]; done) | (simp [va_rf_cat, int_cat, long_cat]; decide))) dJ2_remove_50 (hv_fit (by first | exact (Nat.le_refl 0) | omega))) (fun _ _ _ _ _ h => h.elim) (fun b41 y40 H locs hw hI => ?_)
            replace hw := hk43 b41 y40 hw
            refine lv_if_eq (tgt := 59) E.1 E.2.1 dJ2_remove_53 (by decide) (fun c44 => ?_) (fun c44 => ?_)
            · replace hw := hw.1 (bi_z c44)
              refine lv_iinc (k := 4) (v := x33 + nI 1) (lv' := [(4, .int (x33 + nI 1)), (0, va_rf (some a0)), (1, va_rf (some a11)), (2, va_rf (some a36)), (3, .int (f9))]) E.1 E.2.1 dJ2_remove_59 hl rfl rfl (Nat.le_of_ble_eq_true rfl) (by first | rfl | decide | (simp [va_rf_cat, int_cat, long_cat]; done) | (simp [va_rf_cat, int_cat, long_cat]; decide)) (fun ls hl => ?_)
              refine lv_goto (tgt := 39) E.1 E.2.1 dJ2_remove_62 (by decide) ?_
              obtain ⟨n45, hnn45, hin45⟩ := hw
              exact ih31 n45 hnn45 _ _ hin45 _ _ _ hI (lv_sub hl [1, 2, 3, 4, 0] rfl)
            · replace hw := hw.2 (bi_n c44)
              refine lv_goto (tgt := 67) E.1 E.2.1 dJ2_remove_56 (by decide) ?_
              exact jh2 _ _ _ hw _ _ _ hI (lv_sub hl [0, 2, 4] rfl)
    exact L32 n34 _ _ hi47 _ _ _ hI (lv_sub hl [3, 4, 2, 1, 0] rfl)
  · replace hw := hw.1 c10
    obtain ⟨I12, ⟨n18, hi27⟩, hb26⟩ := hw
    have L16 : ∀ (n13 : Nat) (y14 : HS) (x17 : Int32), I12 n13 y14 x17 → ∀ (H : Heap) (locs : List Loc) (ls : Array Slot), HI G y0 y14 s H locs → lv_has ls 5 [(0, va_rf (some a0)), (2, va_rf f8), (3, .int (f9)), (4, .int (x17))] → W p l e (rmB (d + 2) 0) s m args below meth c H locs 0 (20 * 0) (vx_MQ below (hQz G y0 post) (hX G y0 (fun _ _ _ => False)) args s 0 (20 * 0) (HA y0)) (F0 m 17 ls []) := by
      intro n13
      induction n13 using Nat.strongRecOn with
      | _ n13 ih15 =>
        intro y14 x17 hw H locs ls hI hl
        replace hw := hb26 n13 y14 x17 hw
        refine lv_iload E.1 E.2.1 dJ2_remove_17 (lv_at hl 3 rfl) ?_
        refine lv_iload_n E.1 E.2.1 dJ2_remove_19 rfl (lv_at hl 2 rfl) ?_
        refine lv_icmp_ge (tgt := 65) E.1 E.2.1 dJ2_remove_20 (by decide) (fun c19 => ?_) (fun c19 => ?_)
        · replace hw := hw.1 (c19)
          refine lv_iconst (v := nI 0) E.1 E.2.1 dJ2_remove_65 rfl ?_
          exact hv_iretz (b := false) E hr hlocks hI (Nat.le_refl 0) rfl hw dJ2_remove_66
        · replace hw := hw.2 (c19)
          refine hv_aload_n (r := f8) E.1 E.2.1 dJ2_remove_23 rfl (lv_at hl 1 rfl) ?_
          refine lv_iload E.1 E.2.1 dJ2_remove_24 (lv_at hl 3 rfl) ?_
          obtain ⟨a20, ea20, hw⟩ := hw
          revert hl hw; subst ea20; intro hl hw
          obtain ⟨n21, g22, hra, hin, hw⟩ := hw
          refine hv_aald E hK hI hra rfl rfl hin dJ2_remove_26 ?_
          refine hv_ifnonnull (r := g22 x17.toNatClampNeg) (tgt := 33) E.1 E.2.1 dJ2_remove_27 (by decide) (fun a24 c23 => ?_) (fun c23 => ?_)
          · replace hw := hw.2 a24 c23
            refine lv_iinc (k := 3) (v := x17 + nI 1) (lv' := [(4, .int (x17 + nI 1)), (0, va_rf (some a0)), (2, va_rf (some a20)), (3, .int (f9))]) E.1 E.2.1 dJ2_remove_33 hl rfl rfl (Nat.le_of_ble_eq_true rfl) (by first | rfl | decide | (simp [va_rf_cat, int_cat, long_cat]; done) | (simp [va_rf_cat, int_cat, long_cat]; decide)) (fun ls hl => ?_)
            refine lv_goto (tgt := 17) E.1 E.2.1 dJ2_remove_36 (by decide) ?_
            obtain ⟨n25, hnn25, hin25⟩ := hw
            exact ih15 n25 hnn25 _ _ hin25 _ _ _ hI (lv_sub hl [1, 2, 3, 0] rfl)
          · replace hw := hw.1 c23
            refine lv_goto (tgt := 67) E.1 E.2.1 dJ2_remove_30 (by decide) ?_
            exact jh2 _ _ _ hw _ _ _ hI (lv_sub hl [0, 1, 3] rfl)
    exact L16 n18 _ _ hi27 _ _ _ hI (lv_sub hl [3, 2, 1, 0] rfl)
/-- java/util/ArrayList.clear()V -/
def wp_J2_clear (G : GP) (post : HS → Prop) (y0 : HS) (a0 : Nat) : Prop := ∃ f1, fI y0 a0 18 0 f1 ∧ ∃ fs3, y0.1 a0 = some (ob 18 fs3) ∧ 0 < fs3.length ∧ ∀ y2, y2 = hput y0 a0 (ob 18 (fs3.set 0 (.int (f1 + (nI 1))))) → ∃ f4, fR y2 a0 18 1 f4 ∧ ∃ f5, fI y2 a0 18 2 f5 ∧ ∃ fs7, y2.1 a0 = some (ob 18 fs7) ∧ 2 < fs7.length ∧ ∀ y6, y6 = hput y2 a0 (ob 18 (fs7.set 2 (.int (nI 0)))) → ∃ I8 : Nat → HS → Int32 → Prop, (∃ n14, I8 n14 y6 (nI 0)) ∧ ∀ (n9 : Nat) (y10 : HS) (x13 : Int32), I8 n9 y10 x13 → (f5 ≤ x13 → post y10) ∧ (¬ f5 ≤ x13 → ∃ a19, f4 = some a19 ∧ ∃ (n16 : Nat) (g17 : Nat → Option Nat), y10.1 a19 = some (ar 6 n16 g17) ∧ vp_in x13 n16 ∧ okO G y10 none ∧ ∀ y18, y18 = hput y10 a19 (ar 6 n16 (va_up g17 x13.toNatClampNeg none)) → ∃ n20, n20 < n9 ∧ I8 n20 y18 (x13 + nI 1))
theorem hs_J2_clear : yJ2_clear.cls ≠ "java/lang/invoke/MethodHandle" ∧ yJ2_clear.cls ≠ "java/lang/invoke/VarHandle" ∧ (parseMethodDescriptor yJ2_clear.desc).map (fun d => d.parameters.length) = some 0 := by decide +kernel
theorem hd_J2_clear : yJ2_clear.cls = RJ2 ∧ yJ2_clear.cls ≠ "java/lang/invoke/MethodHandle" ∧ yJ2_clear.cls ≠ "java/lang/invoke/VarHandle" ∧ (parseMethodDescriptor yJ2_clear.desc).map (fun d => d.parameters.length) = some 0 := by decide +kernel
set_option maxHeartbeats 4000000 in
theorem met_J2_clear (l : Launch) (G : GP) (d : Nat) {post : HS → Prop} {y0 : HS} {a0 : Nat} (hw : wp_J2_clear G post y0 a0) : vx_Met l yJ2_clear (ws_ yJ2_clear cJ2_clear 4 none) (rmB (d + 0) 0) (hPc G y0 [va_rf (some a0)]) (hQv G y0 post) (hX G y0 (fun _ _ _ => False)) 0 (20 * 0) (HA y0) := by
  unfold wp_J2_clear at hw
  refine hv_met (own := RJ2) (by decide) rfl (Nat.le_of_ble_eq_true rfl) ?_
  intro p e s m args below meth c ls E hr hlocks hnm hE hK hI hl
  replace hl : lv_has ls 4 [(0, va_rf (some a0))] := hl
  refine hv_aload_n (r := some a0) E.1 E.2.1 dJ2_clear_0 rfl (lv_at hl 0 rfl) ?_
  refine hv_dup E.1 E.2.1 dJ2_clear_1 ?_
  obtain ⟨f1, ⟨fs, hfs, hfk⟩, hw⟩ := hw
  refine hv_get (v := .int f1) E hK hI ciJ2 0 (Nat.le_of_ble_eq_true rfl) q219 (fun x h => u_same (E.2.2.2.2 _ q220) x h) (Or.inl hfs) hfk dJ2_clear_2 ?_
  refine lv_iconst (v := nI 1) E.1 E.2.1 dJ2_clear_5 rfl ?_
  refine lv_iadd E.1 E.2.1 dJ2_clear_6 ?_
  obtain ⟨fs3, hfs, hln, hw⟩ := hw
  refine hv_put (v := .int (f1 + (nI 1))) E hK hI ciJ2 0 (Nat.le_of_ble_eq_true rfl) q219 (fun x h => u_same (E.2.2.2.2 _ q220) x h) rfl rfl rfl hfs hln dJ2_clear_7 (fun H locs hI => ?_)
  obtain ⟨y2, ey2⟩ : ∃ w, w = hput y0 a0 (ob 18 (fs3.set 0 (.int (f1 + (nI 1))))) := ⟨_, rfl⟩
  rw [← ey2] at hI
  replace hw := hw y2 ey2
  refine hv_aload_n (r := some a0) E.1 E.2.1 dJ2_clear_10 rfl (lv_at hl 0 rfl) ?_
  obtain ⟨f4, ⟨fs, hfs, hfk⟩, hw⟩ := hw
  refine hv_get (v := va_rf f4) E hK hI ciJ2 1 (Nat.le_of_ble_eq_true rfl) q216 (fun _ h => h) (Or.inl hfs) hfk dJ2_clear_11 ?_
  refine hv_astore_n (r := f4) (lv' := [(1, va_rf f4), (0, va_rf (some a0))]) E.1 E.2.1 dJ2_clear_14 rfl hl (Nat.le_of_ble_eq_true rfl) (by first | rfl | decide | (simp [va_rf_cat, int_cat, long_cat]; done) | (simp [va_rf_cat, int_cat, long_cat]; decide)) (fun ls hl => ?_)
  refine hv_aload_n (r := some a0) E.1 E.2.1 dJ2_clear_15 rfl (lv_at hl 1 rfl) ?_
  obtain ⟨f5, ⟨fs, hfs, hfk⟩, hw⟩ := hw
  refine hv_get (v := .int f5) E hK hI ciJ2 2 (Nat.le_of_ble_eq_true rfl) q217 (fun _ h => h) (Or.inl hfs) hfk dJ2_clear_16 ?_
  refine lv_istore_n (lv' := [(2, .int (f5)), (1, va_rf f4), (0, va_rf (some a0))]) E.1 E.2.1 dJ2_clear_19 rfl hl (Nat.le_of_ble_eq_true rfl) (by first | rfl | decide | (simp [va_rf_cat, int_cat, long_cat]; done) | (simp [va_rf_cat, int_cat, long_cat]; decide)) (fun ls hl => ?_)
  refine hv_aload_n (r := some a0) E.1 E.2.1 dJ2_clear_20 rfl (lv_at hl 2 rfl) ?_
  refine lv_iconst (v := nI 0) E.1 E.2.1 dJ2_clear_21 rfl ?_
  refine lv_dup_x1 E.1 E.2.1 dJ2_clear_22 rfl (va_rf_cat _) ?_
  obtain ⟨fs7, hfs, hln, hw⟩ := hw
  refine hv_put (v := .int (nI 0)) E hK hI ciJ2 2 (Nat.le_of_ble_eq_true rfl) q217 (fun _ h => h) rfl rfl rfl hfs hln dJ2_clear_23 (fun H locs hI => ?_)
  obtain ⟨y6, ey6⟩ : ∃ w, w = hput y2 a0 (ob 18 (fs7.set 2 (.int (nI 0)))) := ⟨_, rfl⟩
  rw [← ey6] at hI
  replace hw := hw y6 ey6
  refine lv_istore_n (lv' := [(3, .int (nI 0)), (2, .int (f5)), (1, va_rf f4), (0, va_rf (some a0))]) E.1 E.2.1 dJ2_clear_26 rfl hl (Nat.le_of_ble_eq_true rfl) (by first | rfl | decide | (simp [va_rf_cat, int_cat, long_cat]; done) | (simp [va_rf_cat, int_cat, long_cat]; decide)) (fun ls hl => ?_)
  obtain ⟨I8, ⟨n14, hi22⟩, hb21⟩ := hw
  have L12 : ∀ (n9 : Nat) (y10 : HS) (x13 : Int32), I8 n9 y10 x13 → ∀ (H : Heap) (locs : List Loc) (ls : Array Slot), HI G y0 y10 s H locs → lv_has ls 4 [(1, va_rf f4), (2, .int (f5)), (3, .int (x13))] → W p l e (rmB (d + 0) 0) s m args below meth c H locs 0 (20 * 0) (vx_MQ below (hQv G y0 post) (hX G y0 (fun _ _ _ => False)) args s 0 (20 * 0) (HA y0)) (F0 m 27 ls []) := by
    intro n9
    induction n9 using Nat.strongRecOn with
    | _ n9 ih11 =>
      intro y10 x13 hw H locs ls hI hl
      replace hw := hb21 n9 y10 x13 hw
      refine lv_iload_n E.1 E.2.1 dJ2_clear_27 rfl (lv_at hl 2 rfl) ?_
      refine lv_iload_n E.1 E.2.1 dJ2_clear_28 rfl (lv_at hl 1 rfl) ?_
      refine lv_icmp_ge (tgt := 42) E.1 E.2.1 dJ2_clear_29 (by decide) (fun c15 => ?_) (fun c15 => ?_)
      · replace hw := hw.1 (c15)
        exact hv_vret E hr hlocks hI (Nat.le_refl 0) hw dJ2_clear_42
      · replace hw := hw.2 (c15)
        refine hv_aload_n (r := f4) E.1 E.2.1 dJ2_clear_32 rfl (lv_at hl 0 rfl) ?_
        refine lv_iload_n E.1 E.2.1 dJ2_clear_33 rfl (lv_at hl 2 rfl) ?_
        refine lv_null E.1 E.2.1 dJ2_clear_34 ?_
        obtain ⟨a19, ea19, hw⟩ := hw
        rw [ea19]
        obtain ⟨n16, g17, hra, hin, hok, hw⟩ := hw
        refine hv_aast6 E hK hI hra hin hok dJ2_clear_35 (fun H locs hI => ?_)
        obtain ⟨y18, ey18⟩ : ∃ w, w = hput y10 a19 (ar 6 n16 (va_up g17 x13.toNatClampNeg none)) := ⟨_, rfl⟩
        rw [← ey18] at hI
        replace hw := hw y18 ey18
        refine lv_iinc (k := 2) (v := x13 + nI 1) (lv' := [(3, .int (x13 + nI 1)), (1, va_rf f4), (2, .int (f5))]) E.1 E.2.1 dJ2_clear_36 hl rfl rfl (Nat.le_of_ble_eq_true rfl) (by first | rfl | decide | (simp [va_rf_cat, int_cat, long_cat]; done) | (simp [va_rf_cat, int_cat, long_cat]; decide)) (fun ls hl => ?_)
        refine lv_goto (tgt := 27) E.1 E.2.1 dJ2_clear_39 (by decide) ?_
        obtain ⟨n20, hnn20, hin20⟩ := hw
        exact ih11 n20 hnn20 _ _ hin20 _ _ _ hI (lv_sub hl [1, 2, 0] rfl)
  exact L12 n14 _ _ hi22 _ _ _ hI (lv_sub hl [2, 1, 0] rfl)
/-- java/lang/AbstractStringBuilder.<init>(I)V -/
def wp_J3_init_r19 (G : GP) (B : Nat) (post : HS → Prop) (y0 : HS) (a0 : Nat) (i1 : Int32) : Prop := ((nI 1) = 0 → False) ∧ (¬ (nI 1) = 0 → ∃ n4, i1 = nI n4 ∧ n4 < 2 ^ 20 ∧ 0 + (1 + n4 / 20) ≤ B ∧ ∀ a3, a3 = y0.2 → ∀ y2, y2 = hnew y0 (ai 3 n4 (fun _ => 0)) → ∃ fs6, y2.1 a0 = some (ob 19 fs6) ∧ 0 < fs6.length ∧ ∀ y5, y5 = hput y2 a0 (ob 19 (fs6.set 0 (va_rf (some a3)))) → ∃ fs8, y5.1 a0 = some (ob 19 fs8) ∧ 1 < fs8.length ∧ ∀ y7, y7 = hput y5 a0 (ob 19 (fs8.set 1 (.int (nI 0)))) → post y7)
theorem hs_J3_init_r19 : yJ3_init.cls ≠ "java/lang/invoke/MethodHandle" ∧ yJ3_init.cls ≠ "java/lang/invoke/VarHandle" ∧ (parseMethodDescriptor yJ3_init.desc).map (fun d => d.parameters.length) = some 1 := by decide +kernel
set_option maxHeartbeats 4000000 in
theorem met_J3_init_r19 (l : Launch) (G : GP) (d : Nat) {B : Nat} {post : HS → Prop} {y0 : HS} {a0 : Nat} {i1 : Int32} (hw : wp_J3_init_r19 G B post y0 a0 i1) : vx_Met l yJ3_init (ws_ yJ3_init cJ3_init 2 none) (rmB (d + 1) B) (hPc G y0 [va_rf (some a0), .int (i1)]) (hQv G y0 post) (hX G y0 (fun _ _ _ => False)) B (20 * B) (HA y0) := by
  unfold wp_J3_init_r19 at hw
  refine hv_met (own := RJ3) (by decide) rfl (Nat.le_of_ble_eq_true rfl) ?_
  intro p e s m args below meth c ls E hr hlocks hnm hE hK hI hl
  replace hl : lv_has ls 2 [(0, va_rf (some a0)), (1, .int (i1))] := hl
  have hu : 0 ≤ B := Nat.zero_le _
  refine hv_aload_n (r := some a0) E.1 E.2.1 dJ3_init_0 rfl (lv_at hl 0 rfl) ?_
  refine hv_objInit (r := some a0) E q343 hl.1 rfl (by first | rfl | decide | (simp [va_rf_cat, int_cat, long_cat]; done) | (simp [va_rf_cat, int_cat, long_cat]; decide)) dJ3_init_1 ?_
  refine hv_gets (v := .int (nI 1)) E hK hI 0 rfl q344 (fun _ h => h) dJ3_init_4 ?_
  refine lv_if_eq (tgt := 25) E.1 E.2.1 dJ3_init_7 (by decide) (fun c1 => ?_) (fun c1 => ?_)
  · replace hw := hw.1 (c1)
    refine hv_aload_n (r := some a0) E.1 E.2.1 dJ3_init_25 rfl (lv_at hl 0 rfl) ?_
    refine lv_iload_n E.1 E.2.1 dJ3_init_26 rfl (lv_at hl 1 rfl) ?_
    exact hw.elim
  · replace hw := hw.2 (c1)
    refine hv_aload_n (r := some a0) E.1 E.2.1 dJ3_init_10 rfl (lv_at hl 0 rfl) ?_
    refine lv_iload_n E.1 E.2.1 dJ3_init_11 rfl (lv_at hl 1 rfl) ?_
    obtain ⟨n4, eN, hN, hw⟩ := hw
    obtain ⟨hu, hw⟩ := hw
    refine hv_newa (N := n4) (t := 3) (ty := .byte) (atype := .byte) E hK hI rfl rfl q366 rfl rfl eN hN (by decide) hu dJ3_init_12 (fun H hI => ?_)
    obtain ⟨a3, ea3⟩ : ∃ w, w = y0.2 := ⟨_, rfl⟩
    obtain ⟨y2, ey2⟩ : ∃ w, w = hnew y0 (ai 3 n4 (fun _ => 0)) := ⟨_, rfl⟩
    rw [← ea3]
    rw [← ey2] at hI
    replace hw := hw a3 ea3 y2 ey2
    obtain ⟨fs6, hfs, hln, hw⟩ := hw
    refine hv_put (v := va_rf (some a3)) E hK hI ciJ4 0 (Nat.le_of_ble_eq_true rfl) q353 (fun _ h => h) rfl (rf_nar _ _ rfl) (rf_fit _ _ rfl) hfs hln dJ3_init_14 (fun H locs hI => ?_)
    obtain ⟨y5, ey5⟩ : ∃ w, w = hput y2 a0 (ob 19 (fs6.set 0 (va_rf (some a3)))) := ⟨_, rfl⟩
    rw [← ey5] at hI
    replace hw := hw y5 ey5
    refine hv_aload_n (r := some a0) E.1 E.2.1 dJ3_init_17 rfl (lv_at hl 0 rfl) ?_
    refine lv_iconst (v := nI 0) E.1 E.2.1 dJ3_init_18 rfl ?_
    obtain ⟨fs8, hfs, hln, hw⟩ := hw
    refine hv_put (v := .int (nI 0)) E hK hI ciJ4 1 (Nat.le_of_ble_eq_true rfl) q354 (fun _ h => h) rfl rfl rfl hfs hln dJ3_init_19 (fun H locs hI => ?_)
    obtain ⟨y7, ey7⟩ : ∃ w, w = hput y5 a0 (ob 19 (fs8.set 1 (.int (nI 0)))) := ⟨_, rfl⟩
    rw [← ey7] at hI
    replace hw := hw y7 ey7
    refine lv_goto (tgt := 38) E.1 E.2.1 dJ3_init_22 (by decide) ?_
    exact hv_vret E hr hlocks hI hu hw dJ3_init_38
/-- java/lang/AbstractStringBuilder.length()I -/
def wp_J3_length_r19 (G : GP) (post : Int32 → HS → Prop) (y0 : HS) (a0 : Nat) : Prop := ∃ f1, fI y0 a0 19 3 f1 ∧ post f1 y0
theorem hs_J3_length_r19 : yJ3_length.cls ≠ "java/lang/invoke/MethodHandle" ∧ yJ3_length.cls ≠ "java/lang/invoke/VarHandle" ∧ (parseMethodDescriptor yJ3_length.desc).map (fun d => d.parameters.length) = some 0 := by decide +kernel
theorem hd_J3_length_r19 : yJ3_length.cls = RJ3 ∧ yJ3_length.cls ≠ "java/lang/invoke/MethodHandle" ∧ yJ3_length.cls ≠ "java/lang/invoke/VarHandle" ∧ (parseMethodDescriptor yJ3_length.desc).map (fun d => d.parameters.length) = some 0 := by decide +kernel
set_option maxHeartbeats 4000000 in
theorem met_J3_length_r19 (l : Launch) (G : GP) (d : Nat) {post : Int32 → HS → Prop} {y0 : HS} {a0 : Nat} (hw : wp_J3_length_r19 G post y0 a0) : vx_Met l yJ3_length (ws_ yJ3_length cJ3_length 1 (some .int)) (rmB (d + 0) 0) (hPc G y0 [va_rf (some a0)]) (hQi G y0 post) (hX G y0 (fun _ _ _ => False)) 0 (20 * 0) (HA y0) := by
  unfold wp_J3_length_r19 at hw
  refine hv_met (own := RJ3) (by decide) rfl (Nat.le_of_ble_eq_true rfl) ?_
  intro p e s m args below meth c ls E hr hlocks hnm hE hK hI hl
  replace hl : lv_has ls 1 [(0, va_rf (some a0))] := hl
  refine hv_aload_n (r := some a0) E.1 E.2.1 dJ3_length_0 rfl (lv_at hl 0 rfl) ?_
  obtain ⟨f1, ⟨fs, hfs, hfk⟩, hw⟩ := hw
  refine hv_get (v := .int f1) E hK hI ciJ4 3 (Nat.le_of_ble_eq_true rfl) q356 (fun _ h => h) (Or.inl hfs) hfk dJ3_length_1 ?_
  exact hv_ireti E hr hlocks hI (Nat.le_refl 0) hw dJ3_length_4
/-- java/lang/StringLatin1.canEncode(C)Z -/
def wp_J10_canEncode (G : GP) (post : Bool → HS → Prop) (y0 : HS) (i0 : Int32) : Prop := ((nI 255) < i0 → post false y0) ∧ (¬ (nI 255) < i0 → post true y0)
theorem hs_J10_canEncode : yJ10_canEncode.cls ≠ "java/lang/invoke/MethodHandle" ∧ yJ10_canEncode.cls ≠ "java/lang/invoke/VarHandle" ∧ (parseMethodDescriptor yJ10_canEncode.desc).map (fun d => d.parameters.length) = some 1 := by decide +kernel
set_option maxHeartbeats 4000000 in
theorem met_J10_canEncode (l : Launch) (G : GP) (d : Nat) {post : Bool → HS → Prop} {y0 : HS} {i0 : Int32} (hw : wp_J10_canEncode G post y0 i0) : vx_Met l yJ10_canEncode (ws_ yJ10_canEncode cJ10_canEncode 1 (some .boolean)) (rmB (d + 0) 0) (hPc G y0 [.int (i0)]) (hQz G y0 post) (hX G y0 (fun _ _ _ => False)) 0 (20 * 0) (HA y0) := by
  unfold wp_J10_canEncode at hw
  refine hv_met (own := RJ10) (by decide) rfl (Nat.le_of_ble_eq_true rfl) ?_
  intro p e s m args below meth c ls E hr hlocks hnm hE hK hI hl
  replace hl : lv_has ls 1 [(0, .int (i0))] := hl
  refine lv_iload_n E.1 E.2.1 dJ10_canEncode_0 rfl (lv_at hl 0 rfl) ?_
  refine lv_sipush (v := nI 255) E.1 E.2.1 dJ10_canEncode_1 rfl ?_
  refine lv_icmp_gt (tgt := 11) E.1 E.2.1 dJ10_canEncode_4 (by decide) (fun c1 => ?_) (fun c1 => ?_)
  · replace hw := hw.1 (c1)
    refine lv_iconst (v := nI 0) E.1 E.2.1 dJ10_canEncode_11 rfl ?_
    exact hv_iretz (b := false) E hr hlocks hI (Nat.le_refl 0) rfl hw dJ10_canEncode_12
  · replace hw := hw.2 (c1)
    refine lv_iconst (v := nI 1) E.1 E.2.1 dJ10_canEncode_7 rfl ?_
    refine lv_goto (tgt := 12) E.1 E.2.1 dJ10_canEncode_8 (by decide) ?_
    exact hv_iretz (b := true) E hr hlocks hI (Nat.le_refl 0) rfl hw dJ10_canEncode_12
/-- java/lang/AbstractStringBuilder.ensureCapacityInternal(I)V -/
def wp_J3_ensureCapacityInternal_r19 (G : GP) (post : HS → Prop) (y0 : HS) (a0 : Nat) (i1 : Int32) : Prop := ∃ f1, fR y0 a0 19 0 f1 ∧ ∃ a2, f1 = some a2 ∧ ∃ (n3 : Nat) (g4 : Nat → Int32), rd G y0 a2 (ai 3 n3 g4) ∧ ∃ f5, fI y0 a0 19 1 f5 ∧ ∀ x6, x6 = (nI n3) >>> (f5 &&& 31) → ((i1 - x6) ≤ 0 → post y0) ∧ (¬ (i1 - x6) ≤ 0 → ∃ f8, fR y0 a0 19 0 f8 ∧ False)
theorem hs_J3_ensureCapacityInternal_r19 : yJ3_ensureCapacityInternal.cls ≠ "java/lang/invoke/MethodHandle" ∧ yJ3_ensureCapacityInternal.cls ≠ "java/lang/invoke/VarHandle" ∧ (parseMethodDescriptor yJ3_ensureCapacityInternal.desc).map (fun d => d.parameters.length) = some 1 := by decide +kernel
theorem hd_J3_ensureCapacityInternal_r19 : yJ3_ensureCapacityInternal.cls = RJ3 ∧ yJ3_ensureCapacityInternal.cls ≠ "java/lang/invoke/MethodHandle" ∧ yJ3_ensureCapacityInternal.cls ≠ "java/lang/invoke/VarHandle" ∧ (parseMethodDescriptor yJ3_ensureCapacityInternal.desc).map (fun d => d.parameters.length) = some 1 := by decide +kernel
set_option maxHeartbeats 4000000 in
theorem met_J3_ensureCapacityInternal_r19 (l : Launch) (G : GP) (d : Nat) {post : HS → Prop} {y0 : HS} {a0 : Nat} {i1 : Int32} (hw : wp_J3_ensureCapacityInternal_r19 G post y0 a0 i1) : vx_Met l yJ3_ensureCapacityInternal (ws_ yJ3_ensureCapacityInternal cJ3_ensureCapacityInternal 3 none) (rmB (d + 0) 0) (hPc G y0 [va_rf (some a0), .int (i1)]) (hQv G y0 post) (hX G y0 (fun _ _ _ => False)) 0 (20 * 0) (HA y0) := by
  unfold wp_J3_ensureCapacityInternal_r19 at hw
  refine hv_met (own := RJ3) (by decide) rfl (Nat.le_of_ble_eq_true rfl) ?_
  intro p e s m args below meth c ls E hr hlocks hnm hE hK hI hl
  replace hl : lv_has ls 3 [(0, va_rf (some a0)), (1, .int (i1))] := hl
  refine hv_aload_n (r := some a0) E.1 E.2.1 dJ3_ensureCapacityInternal_0 rfl (lv_at hl 0 rfl) ?_
  obtain ⟨f1, ⟨fs, hfs, hfk⟩, hw⟩ := hw
  refine hv_get (v := va_rf f1) E hK hI ciJ4 0 (Nat.le_of_ble_eq_true rfl) q353 (fun _ h => h) (Or.inl hfs) hfk dJ3_ensureCapacityInternal_1 ?_
  obtain ⟨a2, ea2, hw⟩ := hw
  revert hl hw; subst ea2; intro hl hw
  obtain ⟨n3, g4, hra, hw⟩ := hw
  refine hv_alen (t := 3) E hK hI hra rfl dJ3_ensureCapacityInternal_4 ?_
  refine hv_aload_n (r := some a0) E.1 E.2.1 dJ3_ensureCapacityInternal_5 rfl (lv_at hl 0 rfl) ?_
  obtain ⟨f5, ⟨fs, hfs, hfk⟩, hw⟩ := hw
  refine hv_get (v := .int f5) E hK hI ciJ4 1 (Nat.le_of_ble_eq_true rfl) q354 (fun _ h => h) (Or.inl hfs) hfk dJ3_ensureCapacityInternal_6 ?_
  refine lv_ishr E.1 E.2.1 dJ3_ensureCapacityInternal_9 ?_
  refine lv_topi (fun x6 ex6 => ?_)
  replace hw := hw x6 ex6
  refine lv_istore_n (lv' := [(2, .int (x6)), (0, va_rf (some a0)), (1, .int (i1))]) E.1 E.2.1 dJ3_ensureCapacityInternal_10 rfl hl (Nat.le_of_ble_eq_true rfl) (by first | rfl | decide | (simp [va_rf_cat, int_cat, long_cat]; done) | (simp [va_rf_cat, int_cat, long_cat]; decide)) (fun ls hl => ?_)
  refine lv_iload_n E.1 E.2.1 dJ3_ensureCapacityInternal_11 rfl (lv_at hl 2 rfl) ?_
  refine lv_iload_n E.1 E.2.1 dJ3_ensureCapacityInternal_12 rfl (lv_at hl 0 rfl) ?_
  refine lv_isub E.1 E.2.1 dJ3_ensureCapacityInternal_13 ?_
  refine lv_if_le (tgt := 38) E.1 E.2.1 dJ3_ensureCapacityInternal_14 (by decide) (fun c7 => ?_) (fun c7 => ?_)
  · replace hw := hw.1 (c7)
    exact hv_vret E hr hlocks hI (Nat.le_refl 0) hw dJ3_ensureCapacityInternal_38
  · replace hw := hw.2 (c7)
    refine hv_aload_n (r := some a0) E.1 E.2.1 dJ3_ensureCapacityInternal_17 rfl (lv_at hl 1 rfl) ?_
    refine hv_aload_n (r := some a0) E.1 E.2.1 dJ3_ensureCapacityInternal_18 rfl (lv_at hl 1 rfl) ?_
    obtain ⟨f8, ⟨fs, hfs, hfk⟩, hw⟩ := hw
    refine hv_get (v := va_rf f8) E hK hI ciJ4 0 (Nat.le_of_ble_eq_true rfl) q353 (fun _ h => h) (Or.inl hfs) hfk dJ3_ensureCapacityInternal_19 ?_
    refine hv_aload_n (r := some a0) E.1 E.2.1 dJ3_ensureCapacityInternal_22 rfl (lv_at hl 1 rfl) ?_
    refine lv_iload_n E.1 E.2.1 dJ3_ensureCapacityInternal_23 rfl (lv_at hl 2 rfl) ?_
    exact hw.elim
/-- java/lang/AbstractStringBuilder.isLatin1()Z -/
def wp_J3_isLatin1_r19 (G : GP) (post : Bool → HS → Prop) (y0 : HS) (a0 : Nat) : Prop := ((nI 1) = 0 → post false y0) ∧ (¬ (nI 1) = 0 → ∃ f2, fI y0 a0 19 1 f2 ∧ (¬ f2 = 0 → post false y0) ∧ (f2 = 0 → post true y0))
theorem hs_J3_isLatin1_r19 : yJ3_isLatin1.cls ≠ "java/lang/invoke/MethodHandle" ∧ yJ3_isLatin1.cls ≠ "java/lang/invoke/VarHandle" ∧ (parseMethodDescriptor yJ3_isLatin1.desc).map (fun d => d.parameters.length) = some 0 := by decide +kernel
theorem hd_J3_isLatin1_r19 : yJ3_isLatin1.cls = RJ3 ∧ yJ3_isLatin1.cls ≠ "java/lang/invoke/MethodHandle" ∧ yJ3_isLatin1.cls ≠ "java/lang/invoke/VarHandle" ∧ (parseMethodDescriptor yJ3_isLatin1.desc).map (fun d => d.parameters.length) = some 0 := by decide +kernel
set_option maxHeartbeats 4000000 in
theorem met_J3_isLatin1_r19 (l : Launch) (G : GP) (d : Nat) {post : Bool → HS → Prop} {y0 : HS} {a0 : Nat} (hw : wp_J3_isLatin1_r19 G post y0 a0) : vx_Met l yJ3_isLatin1 (ws_ yJ3_isLatin1 cJ3_isLatin1 1 (some .boolean)) (rmB (d + 0) 0) (hPc G y0 [va_rf (some a0)]) (hQz G y0 post) (hX G y0 (fun _ _ _ => False)) 0 (20 * 0) (HA y0) := by
  unfold wp_J3_isLatin1_r19 at hw
  refine hv_met (own := RJ3) (by decide) rfl (Nat.le_of_ble_eq_true rfl) ?_
  intro p e s m args below meth c ls E hr hlocks hnm hE hK hI hl
  replace hl : lv_has ls 1 [(0, va_rf (some a0))] := hl
  refine hv_gets (v := .int (nI 1)) E hK hI 0 rfl q344 (fun _ h => h) dJ3_isLatin1_0 ?_
  refine lv_if_eq (tgt := 17) E.1 E.2.1 dJ3_isLatin1_3 (by decide) (fun c1 => ?_) (fun c1 => ?_)
  · replace hw := hw.1 (c1)
    refine lv_iconst (v := nI 0) E.1 E.2.1 dJ3_isLatin1_17 rfl ?_
    exact hv_iretz (b := false) E hr hlocks hI (Nat.le_refl 0) rfl hw dJ3_isLatin1_18
  · replace hw := hw.2 (c1)
    refine hv_aload_n (r := some a0) E.1 E.2.1 dJ3_isLatin1_6 rfl (lv_at hl 0 rfl) ?_
    obtain ⟨f2, ⟨fs, hfs, hfk⟩, hw⟩ := hw
    refine hv_get (v := .int f2) E hK hI ciJ4 1 (Nat.le_of_ble_eq_true rfl) q354 (fun _ h => h) (Or.inl hfs) hfk dJ3_isLatin1_7 ?_
    refine lv_if_ne (tgt := 17) E.1 E.2.1 dJ3_isLatin1_10 (by decide) (fun c3 => ?_) (fun c3 => ?_)
    · replace hw := hw.1 (c3)
      refine lv_iconst (v := nI 0) E.1 E.2.1 dJ3_isLatin1_17 rfl ?_
      exact hv_iretz (b := false) E hr hlocks hI (Nat.le_refl 0) rfl hw dJ3_isLatin1_18
    · replace hw := hw.2 (c3)
      refine lv_iconst (v := nI 1) E.1 E.2.1 dJ3_isLatin1_13 rfl ?_
      refine lv_goto (tgt := 18) E.1 E.2.1 dJ3_isLatin1_14 (by decide) ?_
      exact hv_iretz (b := true) E hr hlocks hI (Nat.le_refl 0) rfl hw dJ3_isLatin1_18
/-- java/lang/AbstractStringBuilder.append(C)Ljava/lang/AbstractStringBuilder; -/
def wp_J3_append_r19 (G : GP) (post : Option Nat → HS → Prop) (y0 : HS) (a0 : Nat) (i1 : Int32) : Prop := ∃ J1 : HS → Prop, (∀ (y3 : HS), J1 y3  → (∃ fs6, rd G y3 a0 (ob 19 fs6)) ∧ wp_J3_isLatin1_r19 G (fun b5 y4 => (b5 = false → ∃ f8, fR y4 a0 19 0 f8 ∧ ∃ f9, fI y4 a0 19 3 f9 ∧ ∃ fs11, y4.1 a0 = some (ob 19 fs11) ∧ 3 < fs11.length ∧ ∀ y10, y10 = hput y4 a0 (ob 19 (fs11.set 3 (.int (f9 + (nI 1))))) → False) ∧ (b5 = true → False)) y3 a0) ∧ (∃ f12, fI y0 a0 19 3 f12 ∧ (∃ fs14, rd G y0 a0 (ob 19 fs14)) ∧ wp_J3_ensureCapacityInternal_r19 G (fun y13 => (∃ fs17, rd G y13 a0 (ob 19 fs17)) ∧ wp_J3_isLatin1_r19 G (fun b16 y15 => (b16 = false → J1 y15 ) ∧ (b16 = true → wp_J10_canEncode G (fun b20 y19 => (b20 = false → J1 y19 ) ∧ (b20 = true → ∃ f22, fR y19 a0 19 0 f22 ∧ ∃ f23, fI y19 a0 19 3 f23 ∧ ∃ fs25, y19.1 a0 = some (ob 19 fs25) ∧ 3 < fs25.length ∧ ∀ y24, y24 = hput y19 a0 (ob 19 (fs25.set 3 (.int (f23 + (nI 1))))) → ∃ a29, f22 = some a29 ∧ ∃ (n26 : Nat) (g27 : Nat → Int32), y24.1 a29 = some (ai 3 n26 g27) ∧ vp_in f23 n26 ∧ ∀ y28, y28 = hput y24 a29 (ai 3 n26 (upd g27 f23.toNatClampNeg (vp_nar .byte i1.toInt8.toInt32))) → post (some a0) y28)) y15 i1)) y13 a0) y0 a0 (f12 + (nI 1)))
theorem hs_J3_append_r19 : yJ3_append.cls ≠ "java/lang/invoke/MethodHandle" ∧ yJ3_append.cls ≠ "java/lang/invoke/VarHandle" ∧ (parseMethodDescriptor yJ3_append.desc).map (fun d => d.parameters.length) = some 1 := by decide +kernel
theorem hd_J3_append_r19 : yJ3_append.cls = RJ3 ∧ yJ3_append.cls ≠ "java/lang/invoke/MethodHandle" ∧ yJ3_append.cls ≠ "java/lang/invoke/VarHandle" ∧ (parseMethodDescriptor yJ3_append.desc).map (fun d => d.parameters.length) = some 1 := by decide +kernel
set_option maxHeartbeats 4000000 in
theorem met_J3_append_r19 (l : Launch) (G : GP) (d : Nat) {post : Option Nat → HS → Prop} {y0 : HS} {a0 : Nat} {i1 : Int32} (hw : wp_J3_append_r19 G post y0 a0 i1) : vx_Met l yJ3_append (ws_ yJ3_append cJ3_append 2 (some (.object "java/lang/AbstractStringBuilder"))) (rmB (d + 1) 0) (hPc G y0 [va_rf (some a0), .int (i1)]) (hQq G y0 post) (hX G y0 (fun _ _ _ => False)) 0 (20 * 0) (HA y0) := by
  unfold wp_J3_append_r19 at hw
  refine hv_met (own := RJ3) (by decide) rfl (Nat.le_of_ble_eq_true rfl) ?_
  intro p e s m args below meth c ls E hr hlocks hnm hE hK hI hl
  replace hl : lv_has ls 2 [(0, va_rf (some a0)), (1, .int (i1))] := hl
  obtain ⟨J1, hj30, hw⟩ := hw
  have jh2 : ∀ (y3 : HS), J1 y3  → ∀ (H : Heap) (locs : List Loc) (ls : Array Slot), HI G y0 y3 s H locs → lv_has ls 2 [(0, va_rf (some a0)), (1, .int (i1))] → W p l e (rmB (d + 1) 0) s m args below meth c H locs 0 (20 * 0) (vx_MQ below (hQq G y0 post) (hX G y0 (fun _ _ _ => False)) args s 0 (20 * 0) (HA y0)) (F0 m 45 ls []) := by
    intro y3 hw H locs ls hI hl
    replace hw := hj30 y3 hw
    refine hv_aload_n (r := some a0) E.1 E.2.1 dJ3_append_45 rfl (lv_at hl 0 rfl) ?_
    obtain ⟨⟨fs6, hrv⟩, hw⟩ := hw
    have hq := hw
    clear hw
    refine hv_callz (u := 0) (B1 := 0) hI (vx_runU (C := "java/lang/StringBuilder") (owner := "java/lang/AbstractStringBuilder") (x := ⟨"java/lang/AbstractStringBuilder", "isLatin1", "()Z"⟩) (As := []) (rest := []) E (met_J3_isLatin1_r19 l G (d) hq) (cw_any 0 E.2.2.2.2 (lw_meth q420) rfl rfl q416 q418 (E.2.2.2.2 _ q419) q417 q130 (va_Decl.of (E.2.2.2.2 _ q417) (E.2.2.2.2 _ q420)) (by decide +kernel) (rm_ok (by omega) (by decide))) (hv_preV hK hI hrv rfl) rfl rfl hl.1 rfl (lv_room (by first | rfl | decide | (simp [va_rf_cat, int_cat, long_cat]; done) | (simp [va_rf_cat, int_cat, long_cat]; decide))) dJ3_append_46 (hv_fit (by first | exact (Nat.le_refl 0) | omega))) (fun _ _ _ _ _ h => h.elim) (fun b5 y4 H locs hw hI => ?_)
    refine lv_if_eq (tgt := 56) E.1 E.2.1 dJ3_append_49 (by decide) (fun c7 => ?_) (fun c7 => ?_)
    · replace hw := hw.1 (bi_z c7)
      refine hv_aload_n (r := some a0) E.1 E.2.1 dJ3_append_56 rfl (lv_at hl 0 rfl) ?_
      obtain ⟨f8, ⟨fs, hfs, hfk⟩, hw⟩ := hw
      refine hv_get (v := va_rf f8) E hK hI ciJ4 0 (Nat.le_of_ble_eq_true rfl) q353 (fun _ h => h) (Or.inl hfs) hfk dJ3_append_57 ?_
      refine hv_aload_n (r := some a0) E.1 E.2.1 dJ3_append_60 rfl (lv_at hl 0 rfl) ?_
      refine hv_dup E.1 E.2.1 dJ3_append_61 ?_
      obtain ⟨f9, ⟨fs, hfs, hfk⟩, hw⟩ := hw
      refine hv_get (v := .int f9) E hK hI ciJ4 3 (Nat.le_of_ble_eq_true rfl) q356 (fun _ h => h) (Or.inl hfs) hfk dJ3_append_62 ?_
      refine lv_dup_x1 E.1 E.2.1 dJ3_append_65 rfl (va_rf_cat _) ?_
      refine lv_iconst (v := nI 1) E.1 E.2.1 dJ3_append_66 rfl ?_
      refine lv_iadd E.1 E.2.1 dJ3_append_67 ?_
      obtain ⟨fs11, hfs, hln, hw⟩ := hw
      refine hv_put (v := .int (f9 + (nI 1))) E hK hI ciJ4 3 (Nat.le_of_ble_eq_true rfl) q356 (fun _ h => h) rfl rfl rfl hfs hln dJ3_append_68 (fun H locs hI => ?_)
      obtain ⟨y10, ey10⟩ : ∃ w, w = hput y4 a0 (ob 19 (fs11.set 3 (.int (f9 + (nI 1))))) := ⟨_, rfl⟩
      rw [← ey10] at hI
      replace hw := hw y10 ey10
      refine lv_iload_n E.1 E.2.1 dJ3_append_71 rfl (lv_at hl 1 rfl) ?_
      exact hw.elim
    · replace hw := hw.2 (bi_n c7)
      refine hv_aload_n (r := some a0) E.1 E.2.1 dJ3_append_52 rfl (lv_at hl 0 rfl) ?_
      exact hw.elim
  refine hv_aload_n (r := some a0) E.1 E.2.1 dJ3_append_0 rfl (lv_at hl 0 rfl) ?_
  refine hv_aload_n (r := some a0) E.1 E.2.1 dJ3_append_1 rfl (lv_at hl 0 rfl) ?_
  obtain ⟨f12, ⟨fs, hfs, hfk⟩, hw⟩ := hw
  refine hv_get (v := .int f12) E hK hI ciJ4 3 (Nat.le_of_ble_eq_true rfl) q356 (fun _ h => h) (Or.inl hfs) hfk dJ3_append_2 ?_
  refine lv_iconst (v := nI 1) E.1 E.2.1 dJ3_append_5 rfl ?_
  refine lv_iadd E.1 E.2.1 dJ3_append_6 ?_
  obtain ⟨⟨fs14, hrv⟩, hw⟩ := hw
  have hq := hw
  clear hw
  refine hv_callv (u := 0) (B1 := 0) hI (vx_runU (C := "java/lang/StringBuilder") (owner := "java/lang/AbstractStringBuilder") (x := ⟨"java/lang/AbstractStringBuilder", "ensureCapacityInternal", "(I)V"⟩) (As := [.int (f12 + (nI 1))]) (rest := []) E (met_J3_ensureCapacityInternal_r19 l G (d) hq) (cw_any 1 E.2.2.2.2 (lw_meth q384) rfl rfl q381 q2455 (va_Nw.use rfl hK.2.2.2.2.2.2.2.2.2.2.2.2.2.1) q383 q130 (va_Decl.of (E.2.2.2.2 _ q383) (E.2.2.2.2 _ q384)) (by decide +kernel) (rm_ok (by omega) (by decide))) (hv_preV hK hI hrv rfl) rfl rfl hl.1 rfl (lv_room (by first | rfl | decide | (simp [va_rf_cat, int_cat, long_cat]; done) | (simp [va_rf_cat, int_cat, long_cat]; decide))) dJ3_append_7 (hv_fit (by first | exact (Nat.le_refl 0) | omega))) (fun _ _ _ _ _ h => h.elim) (fun y13 H locs hw hI => ?_)
  refine hv_aload_n (r := some a0) E.1 E.2.1 dJ3_append_10 rfl (lv_at hl 0 rfl) ?_
  obtain ⟨⟨fs17, hrv⟩, hw⟩ := hw
  have hq := hw
  clear hw
  refine hv_callz (u := 0) (B1 := 0) hI (vx_runU (C := "java/lang/StringBuilder") (owner := "java/lang/AbstractStringBuilder") (x := ⟨"java/lang/AbstractStringBuilder", "isLatin1", "()Z"⟩) (As := []) (rest := []) E (met_J3_isLatin1_r19 l G (d) hq) (cw_any 0 E.2.2.2.2 (lw_meth q420) rfl rfl q416 q418 (E.2.2.2.2 _ q419) q417 q130 (va_Decl.of (E.2.2.2.2 _ q417) (E.2.2.2.2 _ q420)) (by decide +kernel) (rm_ok (by omega) (by decide))) (hv_preV hK hI hrv rfl) rfl rfl hl.1 rfl (lv_room (by first | rfl | decide | (simp [va_rf_cat, int_cat, long_cat]; done) | (simp [va_rf_cat, int_cat, long_cat]; decide))) dJ3_append_11 (hv_fit (by first | exact (Nat.le_refl 0) | omega))) (fun _ _ _ _ _ h => h.elim) (fun b16 y15 H locs hw hI => ?_)
  refine lv_if_eq (tgt := 45) E.1 E.2.1 dJ3_append_14 (by decide) (fun c18 => ?_) (fun c18 => ?_)
  · replace hw := hw.1 (bi_z c18)
    exact jh2 _ hw _ _ _ hI (lv_sub hl [0, 1] rfl)
  · replace hw := hw.2 (bi_n c18)
    refine lv_iload_n E.1 E.2.1 dJ3_append_17 rfl (lv_at hl 1 rfl) ?_
    have hq := hw
    clear hw
    refine hv_callz (u := 0) (B1 := 0) hI (vx_runS (As := [.int (i1)]) (rest := []) E (met_J10_canEncode l G (d) hq) (va_cwS 1 E.2.2.2.2 (lw_S q421 q422 q138 q423) rfl rfl rfl hs_J10_canEncode (rm_ok (by omega) (by decide))) (hv_preS hK hI) rfl rfl hl.1 rfl (lv_room (by first | rfl | decide | (simp [va_rf_cat, int_cat, long_cat]; done) | (simp [va_rf_cat, int_cat, long_cat]; decide))) dJ3_append_18 (hv_fit (by first | exact (Nat.le_refl 0) | omega))) (fun _ _ _ _ _ h => h.elim) (fun b20 y19 H locs hw hI => ?_)
    refine lv_if_eq (tgt := 45) E.1 E.2.1 dJ3_append_21 (by decide) (fun c21 => ?_) (fun c21 => ?_)
    · replace hw := hw.1 (bi_z c21)
      exact jh2 _ hw _ _ _ hI (lv_sub hl [0, 1] rfl)
    · replace hw := hw.2 (bi_n c21)
      refine hv_aload_n (r := some a0) E.1 E.2.1 dJ3_append_24 rfl (lv_at hl 0 rfl) ?_
      obtain ⟨f22, ⟨fs, hfs, hfk⟩, hw⟩ := hw
      refine hv_get (v := va_rf f22) E hK hI ciJ4 0 (Nat.le_of_ble_eq_true rfl) q353 (fun _ h => h) (Or.inl hfs) hfk dJ3_append_25 ?_
      refine hv_aload_n (r := some a0) E.1 E.2.1 dJ3_append_28 rfl (lv_at hl 0 rfl) ?_
      refine hv_dup E.1 E.2.1 dJ3_append_29 ?_
      obtain ⟨f23, ⟨fs, hfs, hfk⟩, hw⟩ := hw
      refine hv_get (v := .int f23) E hK hI ciJ4 3 (Nat.le_of_ble_eq_true rfl) q356 (fun _ h => h) (Or.inl hfs) hfk dJ3_append_30 ?_
      refine lv_dup_x1 E.1 E.2.1 dJ3_append_33 rfl (va_rf_cat _) ?_
      refine lv_iconst (v := nI 1) E.1 E.2.1 dJ3_append_34 rfl ?_
      refine lv_iadd E.1 E.2.1 dJ3_append_35 ?_
      obtain ⟨fs25, hfs, hln, hw⟩ := hw
      refine hv_put (v := .int (f23 + (nI 1))) E hK hI ciJ4 3 (Nat.le_of_ble_eq_true rfl) q356 (fun _ h => h) rfl rfl rfl hfs hln dJ3_append_36 (fun H locs hI => ?_)
      obtain ⟨y24, ey24⟩ : ∃ w, w = hput y19 a0 (ob 19 (fs25.set 3 (.int (f23 + (nI 1))))) := ⟨_, rfl⟩
      rw [← ey24] at hI
      replace hw := hw y24 ey24
      refine lv_iload_n E.1 E.2.1 dJ3_append_39 rfl (lv_at hl 1 rfl) ?_
      refine lv_i2b E.1 E.2.1 dJ3_append_40 rfl ?_
      obtain ⟨a29, ea29, hw⟩ := hw
      rw [ea29]
      obtain ⟨n26, g27, hra, hin, hw⟩ := hw
      refine hv_bast E hK hI hra hin dJ3_append_41 (fun H locs hI => ?_)
      obtain ⟨y28, ey28⟩ : ∃ w, w = hput y24 a29 (ai 3 n26 (upd g27 f23.toNatClampNeg (vp_nar .byte i1.toInt8.toInt32))) := ⟨_, rfl⟩
      rw [← ey28] at hI
      replace hw := hw y28 ey28
      refine lv_goto (tgt := 75) E.1 E.2.1 dJ3_append_42 (by decide) ?_
      refine hv_aload_n (r := some a0) E.1 E.2.1 dJ3_append_75 rfl (lv_at hl 0 rfl) ?_
      exact hv_aret (r := some a0) E hr (Or.inl ⟨_, rfl⟩) hlocks hI (Nat.le_refl 0) hw dJ3_append_76
/-- java/lang/AbstractStringBuilder.getValue()[B -/
def wp_J3_getValue_r19 (G : GP) (post : Option Nat → HS → Prop) (y0 : HS) (a0 : Nat) : Prop := ∃ f1, fR y0 a0 19 0 f1 ∧ post f1 y0
theorem hs_J3_getValue_r19 : yJ3_getValue.cls ≠ "java/lang/invoke/MethodHandle" ∧ yJ3_getValue.cls ≠ "java/lang/invoke/VarHandle" ∧ (parseMethodDescriptor yJ3_getValue.desc).map (fun d => d.parameters.length) = some 0 := by decide +kernel
theorem hd_J3_getValue_r19 : yJ3_getValue.cls = RJ3 ∧ yJ3_getValue.cls ≠ "java/lang/invoke/MethodHandle" ∧ yJ3_getValue.cls ≠ "java/lang/invoke/VarHandle" ∧ (parseMethodDescriptor yJ3_getValue.desc).map (fun d => d.parameters.length) = some 0 := by decide +kernel
set_option maxHeartbeats 4000000 in
theorem met_J3_getValue_r19 (l : Launch) (G : GP) (d : Nat) {post : Option Nat → HS → Prop} {y0 : HS} {a0 : Nat} (hw : wp_J3_getValue_r19 G post y0 a0) : vx_Met l yJ3_getValue (ws_ yJ3_getValue cJ3_getValue 1 (some (.array .byte))) (rmB (d + 0) 0) (hPc G y0 [va_rf (some a0)]) (hQq G y0 post) (hX G y0 (fun _ _ _ => False)) 0 (20 * 0) (HA y0) := by
  unfold wp_J3_getValue_r19 at hw
  refine hv_met (own := RJ3) (by decide) rfl (Nat.le_of_ble_eq_true rfl) ?_
  intro p e s m args below meth c ls E hr hlocks hnm hE hK hI hl
  replace hl : lv_has ls 1 [(0, va_rf (some a0))] := hl
  refine hv_aload_n (r := some a0) E.1 E.2.1 dJ3_getValue_0 rfl (lv_at hl 0 rfl) ?_
  obtain ⟨f1, ⟨fs, hfs, hfk⟩, hw⟩ := hw
  refine hv_get (v := va_rf f1) E hK hI ciJ4 0 (Nat.le_of_ble_eq_true rfl) q353 (fun _ h => h) (Or.inl hfs) hfk dJ3_getValue_1 ?_
  exact hv_aret (r := f1) E hr (Or.inr ⟨_, rfl⟩) hlocks hI (Nat.le_refl 0) hw dJ3_getValue_4
/-- java/lang/String.checkIndex(II)V -/
def wp_J5_checkIndex (G : GP) (post : HS → Prop) (y0 : HS) (i0 : Int32) (i1 : Int32) : Prop := wp_J11_checkIndex G (fun x2 y1 => post y1) y0 i0 i1 (gS G 0)
theorem hs_J5_checkIndex : yJ5_checkIndex.cls ≠ "java/lang/invoke/MethodHandle" ∧ yJ5_checkIndex.cls ≠ "java/lang/invoke/VarHandle" ∧ (parseMethodDescriptor yJ5_checkIndex.desc).map (fun d => d.parameters.length) = some 2 := by decide +kernel
set_option maxHeartbeats 4000000 in
theorem met_J5_checkIndex (l : Launch) (G : GP) (d : Nat) {post : HS → Prop} {y0 : HS} {i0 : Int32} {i1 : Int32} (hw : wp_J5_checkIndex G post y0 i0 i1) : vx_Met l yJ5_checkIndex (ws_ yJ5_checkIndex cJ5_checkIndex 2 none) (rmB (d + 1) 0) (hPc G y0 [.int (i0), .int (i1)]) (hQv G y0 post) (hX G y0 (fun _ _ _ => False)) 0 (20 * 0) (HA y0) := by
  unfold wp_J5_checkIndex at hw
  refine hv_met (own := RJ5) (by decide) rfl (Nat.le_of_ble_eq_true rfl) ?_
  intro p e s m args below meth c ls E hr hlocks hnm hE hK hI hl
  replace hl : lv_has ls 2 [(0, .int (i0)), (1, .int (i1))] := hl
  refine lv_iload_n E.1 E.2.1 dJ5_checkIndex_0 rfl (lv_at hl 0 rfl) ?_
  refine lv_iload_n E.1 E.2.1 dJ5_checkIndex_1 rfl (lv_at hl 1 rfl) ?_
  refine hv_gets (v := va_rf (gS G 0)) E hK hI 5 rfl q443 (fun _ h => h) dJ5_checkIndex_2 ?_
  have hq := hw
  clear hw
  refine hv_calli (u := 0) (B1 := 0) hI (vx_runS (As := [.int (i0), .int (i1), va_rf (gS G 0)]) (rest := []) E (met_J11_checkIndex l G (d) hq) (va_cwS 3 E.2.2.2.2 (lw_S q466 q467 q139 q468) rfl rfl rfl hs_J11_checkIndex (rm_ok (by omega) (by decide))) (hv_preS hK hI) rfl rfl hl.1 rfl (lv_room (by first | rfl | decide | (simp [va_rf_cat, int_cat, long_cat]; done) | (simp [va_rf_cat, int_cat, long_cat]; decide))) dJ5_checkIndex_5 (hv_fit (by first | exact (Nat.le_refl 0) | omega))) (fun _ _ _ _ _ h => h.elim) (fun x2 y1 H locs hw hI => ?_)
  refine lv_pop E.1 E.2.1 dJ5_checkIndex_8 rfl ?_
  exact hv_vret E hr hlocks hI (Nat.le_refl 0) hw dJ5_checkIndex_9
/-- java/lang/AbstractStringBuilder.charAt(I)C -/
def wp_J3_charAt_r19 (G : GP) (post : Int32 → HS → Prop) (y0 : HS) (a0 : Nat) (i1 : Int32) : Prop := ∃ f1, fI y0 a0 19 1 f1 ∧ ∃ f2, fR y0 a0 19 0 f2 ∧ ∃ f3, fI y0 a0 19 3 f3 ∧ ∃ a4, f2 = some a4 ∧ ∃ (n5 : Nat) (g6 : Nat → Int32), rd G y0 a4 (ai 3 n5 g6) ∧ ∀ x7, x7 = (if ((nI n5) >>> (f1 &&& 31)) < f3 then ((nI n5) >>> (f1 &&& 31)) else f3) → wp_J5_checkIndex G (fun y8 => (¬ f1 = 0 → False) ∧ (f1 = 0 → ∃ (n10 : Nat) (g11 : Nat → Int32), rd G y8 a4 (ai 3 n10 g11) ∧ vp_in i1 n10 ∧ narrow .char (.int ((((g11 i1.toNatClampNeg) &&& (nI 255)).toUInt32 % 65536).toInt32)) = .int ((((g11 i1.toNatClampNeg) &&& (nI 255)).toUInt32 % 65536).toInt32) ∧ post ((((g11 i1.toNatClampNeg) &&& (nI 255)).toUInt32 % 65536).toInt32) y8)) y0 i1 x7
theorem hs_J3_charAt_r19 : yJ3_charAt.cls ≠ "java/lang/invoke/MethodHandle" ∧ yJ3_charAt.cls ≠ "java/lang/invoke/VarHandle" ∧ (parseMethodDescriptor yJ3_charAt.desc).map (fun d => d.parameters.length) = some 1 := by decide +kernel
theorem hd_J3_charAt_r19 : yJ3_charAt.cls = RJ3 ∧ yJ3_charAt.cls ≠ "java/lang/invoke/MethodHandle" ∧ yJ3_charAt.cls ≠ "java/lang/invoke/VarHandle" ∧ (parseMethodDescriptor yJ3_charAt.desc).map (fun d => d.parameters.length) = some 1 := by decide +kernel
set_option maxHeartbeats 4000000 in
theorem met_J3_charAt_r19 (l : Launch) (G : GP) (d : Nat) {post : Int32 → HS → Prop} {y0 : HS} {a0 : Nat} {i1 : Int32} (hw : wp_J3_charAt_r19 G post y0 a0 i1) : vx_Met l yJ3_charAt (ws_ yJ3_charAt cJ3_charAt 5 (some .char)) (rmB (d + 2) 0) (hPc G y0 [va_rf (some a0), .int (i1)]) (hQi G y0 post) (hX G y0 (fun _ _ _ => False)) 0 (20 * 0) (HA y0) := by
  unfold wp_J3_charAt_r19 at hw
  refine hv_met (own := RJ3) (by decide) rfl (Nat.le_of_ble_eq_true rfl) ?_
  intro p e s m args below meth c ls E hr hlocks hnm hE hK hI hl
  replace hl : lv_has ls 5 [(0, va_rf (some a0)), (1, .int (i1))] := hl
  refine hv_aload_n (r := some a0) E.1 E.2.1 dJ3_charAt_0 rfl (lv_at hl 0 rfl) ?_
  obtain ⟨f1, ⟨fs, hfs, hfk⟩, hw⟩ := hw
  refine hv_get (v := .int f1) E hK hI ciJ4 1 (Nat.le_of_ble_eq_true rfl) q354 (fun _ h => h) (Or.inl hfs) hfk dJ3_charAt_1 ?_
  refine lv_istore_n (lv' := [(2, .int (f1)), (0, va_rf (some a0)), (1, .int (i1))]) E.1 E.2.1 dJ3_charAt_4 rfl hl (Nat.le_of_ble_eq_true rfl) (by first | rfl | decide | (simp [va_rf_cat, int_cat, long_cat]; done) | (simp [va_rf_cat, int_cat, long_cat]; decide)) (fun ls hl => ?_)
  refine hv_aload_n (r := some a0) E.1 E.2.1 dJ3_charAt_5 rfl (lv_at hl 1 rfl) ?_
  obtain ⟨f2, ⟨fs, hfs, hfk⟩, hw⟩ := hw
  refine hv_get (v := va_rf f2) E hK hI ciJ4 0 (Nat.le_of_ble_eq_true rfl) q353 (fun _ h => h) (Or.inl hfs) hfk dJ3_charAt_6 ?_
  refine hv_astore_n (r := f2) (lv' := [(3, va_rf f2), (2, .int (f1)), (0, va_rf (some a0)), (1, .int (i1))]) E.1 E.2.1 dJ3_charAt_9 rfl hl (Nat.le_of_ble_eq_true rfl) (by first | rfl | decide | (simp [va_rf_cat, int_cat, long_cat]; done) | (simp [va_rf_cat, int_cat, long_cat]; decide)) (fun ls hl => ?_)
  refine hv_aload_n (r := some a0) E.1 E.2.1 dJ3_charAt_10 rfl (lv_at hl 2 rfl) ?_
  obtain ⟨f3, ⟨fs, hfs, hfk⟩, hw⟩ := hw
  refine hv_get (v := .int f3) E hK hI ciJ4 3 (Nat.le_of_ble_eq_true rfl) q356 (fun _ h => h) (Or.inl hfs) hfk dJ3_charAt_11 ?_
  refine hv_aload_n (r := f2) E.1 E.2.1 dJ3_charAt_14 rfl (lv_at hl 0 rfl) ?_
  obtain ⟨a4, ea4, hw⟩ := hw
  revert hl hw; subst ea4; intro hl hw
  obtain ⟨n5, g6, hra, hw⟩ := hw
  refine hv_alen (t := 3) E hK hI hra rfl dJ3_charAt_15 ?_
  refine lv_iload_n E.1 E.2.1 dJ3_charAt_16 rfl (lv_at hl 1 rfl) ?_
  refine lv_ishr E.1 E.2.1 dJ3_charAt_17 ?_
  refine va_mmin (rest := []) E.1 E.2.1 (by rw [E.2.2.1]; exact hl.1.symm) E.2.2.2.1 (E.2.2.2.2 _ q536) (E.2.2.2.2 _ q411) (E.2.2.2.2 _ q135) (E.2.2.2.2 _ q412) (mm_fr _) (mm_lo _ (by first | exact Nat.zero_le _ | decide | (simp [va_rf_cat, int_cat, long_cat]; done) | (simp [va_rf_cat, int_cat, long_cat]; decide))) (by first | exact hu | exact Nat.le_refl 0) (mm_sl (by first | exact hu | exact Nat.le_refl 0)) dJ3_charAt_18 ?_
  refine lv_topi (fun x7 ex7 => ?_)
  replace hw := hw x7 ex7
  refine lv_istore (lv' := [(4, .int (x7)), (3, va_rf (some a4)), (2, .int (f1)), (0, va_rf (some a0)), (1, .int (i1))]) E.1 E.2.1 dJ3_charAt_21 hl (Nat.le_of_ble_eq_true rfl) (by first | rfl | decide | (simp [va_rf_cat, int_cat, long_cat]; done) | (simp [va_rf_cat, int_cat, long_cat]; decide)) (fun ls hl => ?_)
  refine lv_iload_n E.1 E.2.1 dJ3_charAt_23 rfl (lv_at hl 4 rfl) ?_
  refine lv_iload E.1 E.2.1 dJ3_charAt_24 (lv_at hl 0 rfl) ?_
  have hq := hw
  clear hw
  refine hv_callv (u := 0) (B1 := 0) hI (vx_runS (As := [.int (i1), .int (x7)]) (rest := []) E (met_J5_checkIndex l G (d) hq) (va_cwS 2 E.2.2.2.2 (lw_S q537 q464 q132 q465) rfl rfl rfl hs_J5_checkIndex (rm_ok (by omega) (by decide))) (hv_preS hK hI) rfl rfl hl.1 rfl (lv_room (by first | rfl | decide | (simp [va_rf_cat, int_cat, long_cat]; done) | (simp [va_rf_cat, int_cat, long_cat]; decide))) dJ3_charAt_26 (hv_fit (by first | exact (Nat.le_refl 0) | omega))) (fun _ _ _ _ _ h => h.elim) (fun y8 H locs hw hI => ?_)
  refine lv_iload_n E.1 E.2.1 dJ3_charAt_29 rfl (lv_at hl 2 rfl) ?_
  refine lv_if_ne (tgt := 42) E.1 E.2.1 dJ3_charAt_30 (by decide) (fun c9 => ?_) (fun c9 => ?_)
  · replace hw := hw.1 (c9)
    refine hv_aload_n (r := some a4) E.1 E.2.1 dJ3_charAt_42 rfl (lv_at hl 1 rfl) ?_
    refine lv_iload_n E.1 E.2.1 dJ3_charAt_43 rfl (lv_at hl 4 rfl) ?_
    exact hw.elim
  · replace hw := hw.2 (c9)
    refine hv_aload_n (r := some a4) E.1 E.2.1 dJ3_charAt_33 rfl (lv_at hl 1 rfl) ?_
    refine lv_iload_n E.1 E.2.1 dJ3_charAt_34 rfl (lv_at hl 4 rfl) ?_
    obtain ⟨n10, g11, hra, hin, hw⟩ := hw
    refine hv_bald E hK hI hra hin dJ3_charAt_35 ?_
    refine lv_sipush (v := nI 255) E.1 E.2.1 dJ3_charAt_36 rfl ?_
    refine lv_iand E.1 E.2.1 dJ3_charAt_39 ?_
    refine lv_i2c E.1 E.2.1 dJ3_charAt_40 rfl ?_
    obtain ⟨hnr, hw⟩ := hw
    exact hv_iretn E hr hlocks hI (Nat.le_refl 0) hnr hw dJ3_charAt_41
/-- java/lang/StringBuilder.<init>()V -/
def wp_J4_init (G : GP) (B : Nat) (post : HS → Prop) (y0 : HS) (a0 : Nat) : Prop := ∃ k2, 0 + k2 ≤ B ∧ wp_J3_init_r19 G k2 (fun y1 => post y1) y0 a0 (nI 16)
theorem hs_J4_init : yJ4_init.cls ≠ "java/lang/invoke/MethodHandle" ∧ yJ4_init.cls ≠ "java/lang/invoke/VarHandle" ∧ (parseMethodDescriptor yJ4_init.desc).map (fun d => d.parameters.length) = some 0 := by decide +kernel
set_option maxHeartbeats 4000000 in
theorem met_J4_init (l : Launch) (G : GP) (d : Nat) {B : Nat} {post : HS → Prop} {y0 : HS} {a0 : Nat} (hw : wp_J4_init G B post y0 a0) : vx_Met l yJ4_init (ws_ yJ4_init cJ4_init 1 none) (rmB (d + 2) B) (hPc G y0 [va_rf (some a0)]) (hQv G y0 post) (hX G y0 (fun _ _ _ => False)) B (20 * B) (HA y0) := by
  unfold wp_J4_init at hw
  refine hv_met (own := RJ4) (by decide) rfl (Nat.le_of_ble_eq_true rfl) ?_
  intro p e s m args below meth c ls E hr hlocks hnm hE hK hI hl
  replace hl : lv_has ls 1 [(0, va_rf (some a0))] := hl
  have hu : 0 ≤ B := Nat.zero_le _
  refine hv_aload_n (r := some a0) E.1 E.2.1 dJ4_init_0 rfl (lv_at hl 0 rfl) ?_
  refine lv_bipush (v := nI 16) E.1 E.2.1 dJ4_init_1 rfl ?_
  obtain ⟨k2, hB, hw⟩ := hw
  have hq := hw
  clear hw
  refine hv_callv (u := 0) (B1 := k2) hI (vx_runI (b := a0) (As := [.int (nI 16)]) (rest := []) E (met_J3_init_r19 l G (d) hq) (cwI 1 E.2.2.2.2 (lw_meth q342) rfl rfl rfl (E.2.2.2.2 _ q130) (E.2.2.2.2 _ q340) (E.2.2.2.2 _ q341) rfl hs_J3_init_r19 (rm_ok (by omega) (by decide))) (hv_preS hK hI) rfl rfl hl.1 rfl (lv_room (by first | rfl | decide | (simp [va_rf_cat, int_cat, long_cat]; done) | (simp [va_rf_cat, int_cat, long_cat]; decide))) dJ4_init_3 (hv_fit (by first | exact hB | omega))) (fun _ _ _ _ _ h => h.elim) (fun y1 H locs hw hI => ?_)
  have hu := hB
  exact hv_vret E hr hlocks hI hu hw dJ4_init_6
/-- java/lang/StringBuilder.length()I -/
def wp_J4_length (G : GP) (post : Int32 → HS → Prop) (y0 : HS) (a0 : Nat) : Prop := (∃ fs3, rd G y0 a0 (ob 19 fs3)) ∧ wp_J3_length_r19 G (fun x2 y1 => post x2 y1) y0 a0
theorem hs_J4_length : yJ4_length.cls ≠ "java/lang/invoke/MethodHandle" ∧ yJ4_length.cls ≠ "java/lang/invoke/VarHandle" ∧ (parseMethodDescriptor yJ4_length.desc).map (fun d => d.parameters.length) = some 0 := by decide +kernel
theorem hd_J4_length : yJ4_length.cls = RJ4 ∧ yJ4_length.cls ≠ "java/lang/invoke/MethodHandle" ∧ yJ4_length.cls ≠ "java/lang/invoke/VarHandle" ∧ (parseMethodDescriptor yJ4_length.desc).map (fun d => d.parameters.length) = some 0 := by decide +kernel
set_option maxHeartbeats 4000000 in
theorem met_J4_length (l : Launch) (G : GP) (d : Nat) {post : Int32 → HS → Prop} {y0 : HS} {a0 : Nat} (hw : wp_J4_length G post y0 a0) : vx_Met l yJ4_length (ws_ yJ4_length cJ4_length 1 (some .int)) (rmB (d + 1) 0) (hPc G y0 [va_rf (some a0)]) (hQi G y0 post) (hX G y0 (fun _ _ _ => False)) 0 (20 * 0) (HA y0) := by
  unfold wp_J4_length at hw
  refine hv_met (own := RJ4) (by decide) rfl (Nat.le_of_ble_eq_true rfl) ?_
  intro p e s m args below meth c ls E hr hlocks hnm hE hK hI hl
  replace hl : lv_has ls 1 [(0, va_rf (some a0))] := hl
  refine hv_aload_n (r := some a0) E.1 E.2.1 dJ4_length_0 rfl (lv_at hl 0 rfl) ?_
  obtain ⟨⟨fs3, hrv⟩, hw⟩ := hw
  have hq := hw
  clear hw
  refine hv_calli (u := 0) (B1 := 0) hI (vx_runSU (C := RJ4) (hK.1.1 19 (RJ4, TJ4, 4) rfl).2 (As := []) (rest := []) E (met_J3_length_r19 l G (d) hq) (va_cwSU 0 E.2.2.2.2 (hSU_ws q371 q2453 q365 q372 q130 (lw_meth q373)) rfl rfl rfl (by decide +kernel) (rm_ok (by omega) (by decide))) (hv_preV hK hI hrv rfl) rfl rfl hl.1 rfl (lv_room (by first | rfl | decide | (simp [va_rf_cat, int_cat, long_cat]; done) | (simp [va_rf_cat, int_cat, long_cat]; decide))) dJ4_length_1 (hv_fit (by first | exact (Nat.le_refl 0) | omega))) (fun _ _ _ _ _ h => h.elim) (fun x2 y1 H locs hw hI => ?_)
  exact hv_ireti E hr hlocks hI (Nat.le_refl 0) hw dJ4_length_4
/-- java/lang/StringBuilder.append(C)Ljava/lang/StringBuilder; -/
def wp_J4_append (G : GP) (post : Option Nat → HS → Prop) (y0 : HS) (a0 : Nat) (i1 : Int32) : Prop := (∃ fs3, rd G y0 a0 (ob 19 fs3)) ∧ wp_J3_append_r19 G (fun r2 y1 => post (some a0) y1) y0 a0 i1
theorem hs_J4_append : yJ4_append.cls ≠ "java/lang/invoke/MethodHandle" ∧ yJ4_append.cls ≠ "java/lang/invoke/VarHandle" ∧ (parseMethodDescriptor yJ4_append.desc).map (fun d => d.parameters.length) = some 1 := by decide +kernel
theorem hd_J4_append : yJ4_append.cls = RJ4 ∧ yJ4_append.cls ≠ "java/lang/invoke/MethodHandle" ∧ yJ4_append.cls ≠ "java/lang/invoke/VarHandle" ∧ (parseMethodDescriptor yJ4_append.desc).map (fun d => d.parameters.length) = some 1 := by decide +kernel
set_option maxHeartbeats 4000000 in
theorem met_J4_append (l : Launch) (G : GP) (d : Nat) {post : Option Nat → HS → Prop} {y0 : HS} {a0 : Nat} {i1 : Int32} (hw : wp_J4_append G post y0 a0 i1) : vx_Met l yJ4_append (ws_ yJ4_append cJ4_append 2 (some (.object "java/lang/StringBuilder"))) (rmB (d + 2) 0) (hPc G y0 [va_rf (some a0), .int (i1)]) (hQq G y0 post) (hX G y0 (fun _ _ _ => False)) 0 (20 * 0) (HA y0) := by
  unfold wp_J4_append at hw
  refine hv_met (own := RJ4) (by decide) rfl (Nat.le_of_ble_eq_true rfl) ?_
  intro p e s m args below meth c ls E hr hlocks hnm hE hK hI hl
  replace hl : lv_has ls 2 [(0, va_rf (some a0)), (1, .int (i1))] := hl
  refine hv_aload_n (r := some a0) E.1 E.2.1 dJ4_append_0 rfl (lv_at hl 0 rfl) ?_
  refine lv_iload_n E.1 E.2.1 dJ4_append_1 rfl (lv_at hl 1 rfl) ?_
  obtain ⟨⟨fs3, hrv⟩, hw⟩ := hw
  have hq := hw
  clear hw
  refine hv_callq (u := 0) (B1 := 0) hI (vx_runSU (C := RJ4) (hK.1.1 19 (RJ4, TJ4, 4) rfl).2 (As := [.int (i1)]) (rest := []) E (met_J3_append_r19 l G (d) hq) (va_cwSU 1 E.2.2.2.2 (hSU_ws q378 q2454 q365 q379 q130 (lw_meth q380)) rfl rfl rfl (by decide +kernel) (rm_ok (by omega) (by decide))) (hv_preV hK hI hrv rfl) rfl rfl hl.1 rfl (lv_room (by first | rfl | decide | (simp [va_rf_cat, int_cat, long_cat]; done) | (simp [va_rf_cat, int_cat, long_cat]; decide))) dJ4_append_2 (hv_fit (by first | exact (Nat.le_refl 0) | omega))) (fun _ _ _ _ _ h => h.elim) (fun r2 y1 H locs hw hI => ?_)
  refine lv_pop E.1 E.2.1 dJ4_append_5 (va_rf_cat _) ?_
  refine hv_aload_n (r := some a0) E.1 E.2.1 dJ4_append_6 rfl (lv_at hl 0 rfl) ?_
  exact hv_aret (r := some a0) E hr (Or.inl ⟨_, rfl⟩) hlocks hI (Nat.le_refl 0) hw dJ4_append_7
/-- java/util/Arrays.checkLength(II)V -/
def wp_J9_checkLength (G : GP) (post : HS → Prop) (y0 : HS) (i0 : Int32) (i1 : Int32) : Prop := (i0 ≤ i1 → post y0) ∧ (¬ i0 ≤ i1 → False)
theorem hs_J9_checkLength : yJ9_checkLength.cls ≠ "java/lang/invoke/MethodHandle" ∧ yJ9_checkLength.cls ≠ "java/lang/invoke/VarHandle" ∧ (parseMethodDescriptor yJ9_checkLength.desc).map (fun d => d.parameters.length) = some 2 := by decide +kernel
set_option maxHeartbeats 4000000 in
theorem met_J9_checkLength (l : Launch) (G : GP) (d : Nat) {post : HS → Prop} {y0 : HS} {i0 : Int32} {i1 : Int32} (hw : wp_J9_checkLength G post y0 i0 i1) : vx_Met l yJ9_checkLength (ws_ yJ9_checkLength cJ9_checkLength 2 none) (rmB (d + 0) 0) (hPc G y0 [.int (i0), .int (i1)]) (hQv G y0 post) (hX G y0 (fun _ _ _ => False)) 0 (20 * 0) (HA y0) := by
  unfold wp_J9_checkLength at hw
  refine hv_met (own := RJ9) (by decide) rfl (Nat.le_of_ble_eq_true rfl) ?_
  intro p e s m args below meth c ls E hr hlocks hnm hE hK hI hl
  replace hl : lv_has ls 2 [(0, .int (i0)), (1, .int (i1))] := hl
  refine lv_iload_n E.1 E.2.1 dJ9_checkLength_0 rfl (lv_at hl 1 rfl) ?_
  refine lv_iload_n E.1 E.2.1 dJ9_checkLength_1 rfl (lv_at hl 0 rfl) ?_
  refine lv_icmp_ge (tgt := 37) E.1 E.2.1 dJ9_checkLength_2 (by decide) (fun c1 => ?_) (fun c1 => ?_)
  · replace hw := hw.1 (c1)
    exact hv_vret E hr hlocks hI (Nat.le_refl 0) hw dJ9_checkLength_37
  · replace hw := hw.2 (c1)
    exact hw.elim
/-- java/util/Arrays.copyOfRangeByte([BII)[B -/
def wp_J9_copyOfRangeByte (G : GP) (B : Nat) (post : Option Nat → HS → Prop) (y0 : HS) (p0 : Option Nat) (i1 : Int32) (i2 : Int32) : Prop := wp_J9_checkLength G (fun y1 => ∀ x2, x2 = i2 - i1 → ∃ n5, x2 = nI n5 ∧ n5 < 2 ^ 20 ∧ 0 + (1 + n5 / 20) ≤ B ∧ ∀ a4, a4 = y1.2 → ∀ y3, y3 = hnew y1 (ai 3 n5 (fun _ => 0)) → ∃ a6, p0 = some a6 ∧ ∃ (n7 : Nat) (g8 : Nat → Int32), rd G y3 a6 (ai 3 n7 g8) ∧ ∃ (n9 n10 k13 k14 k15 : Nat) (g11 g12 : Nat → Int32), ((if x2 < ((nI n7) - i1) then x2 else ((nI n7) - i1)) = nI k13 ∧ nI 0 = nI k14 ∧ i1 = nI k15) ∧ y3.1 a6 = some (ai 3 n9 g11) ∧ y3.1 a4 = some (ai 3 n10 g12) ∧ k15 + k13 ≤ n9 ∧ k14 + k13 ≤ n10 ∧ n9 < 2 ^ 20 ∧ n10 < 2 ^ 20 ∧ (∀ i, i < k13 → fits .byte (.int (g11 (k15 + i))) = true) ∧ ∀ y16, y16 = hput y3 a4 (ai 3 n10 (va_cpy g11 g12 k15 k14 k13)) → post (some a4) y16) y0 i1 i2
theorem hs_J9_copyOfRangeByte : yJ9_copyOfRangeByte.cls ≠ "java/lang/invoke/MethodHandle" ∧ yJ9_copyOfRangeByte.cls ≠ "java/lang/invoke/VarHandle" ∧ (parseMethodDescriptor yJ9_copyOfRangeByte.desc).map (fun d => d.parameters.length) = some 3 := by decide +kernel
set_option maxHeartbeats 4000000 in
theorem met_J9_copyOfRangeByte (l : Launch) (G : GP) (d : Nat) {B : Nat} {post : Option Nat → HS → Prop} {y0 : HS} {p0 : Option Nat} {i1 : Int32} {i2 : Int32} (hw : wp_J9_copyOfRangeByte G B post y0 p0 i1 i2) : vx_Met l yJ9_copyOfRangeByte (ws_ yJ9_copyOfRangeByte cJ9_copyOfRangeByte 5 (some (.array .byte))) (rmB (d + 1) B) (hPc G y0 [va_rf p0, .int (i1), .int (i2)]) (hQq G y0 post) (hX G y0 (fun _ _ _ => False)) B (20 * B) (HA y0) := by
  unfold wp_J9_copyOfRangeByte at hw
  refine hv_met (own := RJ9) (by decide) rfl (by simp [lg_sl, va_rf_cat, int_cat, long_cat]) ?_
  intro p e s m args below meth c ls E hr hlocks hnm hE hK hI hl
  replace hl : lv_has ls 5 [(0, va_rf p0), (1, .int (i1)), (2, .int (i2))] := by simpa [lv_args, va_rf_cat, int_cat, long_cat] using hl
  have hu : 0 ≤ B := Nat.zero_le _
  refine lv_iload_n E.1 E.2.1 dJ9_copyOfRangeByte_0 rfl (lv_at hl 1 rfl) ?_
  refine lv_iload_n E.1 E.2.1 dJ9_copyOfRangeByte_1 rfl (lv_at hl 2 rfl) ?_
  have hq := hw
  clear hw
  refine hv_callv (u := 0) (B1 := 0) hI (vx_runS (As := [.int (i1), .int (i2)]) (rest := []) E (met_J9_checkLength l G (d) hq) (va_cwS 2 E.2.2.2.2 (lw_S q495 q496 q136 q497) rfl rfl rfl hs_J9_checkLength (rm_ok (by omega) (by decide))) (hv_preS hK hI) rfl rfl hl.1 rfl (lv_room (by first | rfl | decide | (simp [va_rf_cat, int_cat, long_cat]; done) | (simp [va_rf_cat, int_cat, long_cat]; decide))) dJ9_copyOfRangeByte_2 (hv_fit (by first | exact hu | omega))) (fun _ _ _ _ _ h => h.elim) (fun y1 H locs hw hI => ?_)
  refine lv_iload_n E.1 E.2.1 dJ9_copyOfRangeByte_5 rfl (lv_at hl 2 rfl) ?_
  refine lv_iload_n E.1 E.2.1 dJ9_copyOfRangeByte_6 rfl (lv_at hl 1 rfl) ?_
  refine lv_isub E.1 E.2.1 dJ9_copyOfRangeByte_7 ?_
  refine lv_topi (fun x2 ex2 => ?_)
  replace hw := hw x2 ex2
  refine lv_istore_n (lv' := [(3, .int (x2)), (0, va_rf p0), (1, .int (i1)), (2, .int (i2))]) E.1 E.2.1 dJ9_copyOfRangeByte_8 rfl hl (Nat.le_of_ble_eq_true rfl) (by first | rfl | decide | (simp [va_rf_cat, int_cat, long_cat]; done) | (simp [va_rf_cat, int_cat, long_cat]; decide)) (fun ls hl => ?_)
  refine lv_iload_n E.1 E.2.1 dJ9_copyOfRangeByte_9 rfl (lv_at hl 0 rfl) ?_
  obtain ⟨n5, eN, hN, hw⟩ := hw
  obtain ⟨hu, hw⟩ := hw
  refine hv_newa (N := n5) (t := 3) (ty := .byte) (atype := .byte) E hK hI rfl rfl q366 rfl rfl eN hN (by decide) hu dJ9_copyOfRangeByte_10 (fun H hI => ?_)
  obtain ⟨a4, ea4⟩ : ∃ w, w = y1.2 := ⟨_, rfl⟩
  obtain ⟨y3, ey3⟩ : ∃ w, w = hnew y1 (ai 3 n5 (fun _ => 0)) := ⟨_, rfl⟩
  rw [← ea4]
  rw [← ey3] at hI
  replace hw := hw a4 ea4 y3 ey3
  refine hv_astore (r := some a4) (lv' := [(4, va_rf (some a4)), (3, .int (x2)), (0, va_rf p0), (1, .int (i1)), (2, .int (i2))]) E.1 E.2.1 dJ9_copyOfRangeByte_12 hl (Nat.le_of_ble_eq_true rfl) (by first | rfl | decide | (simp [va_rf_cat, int_cat, long_cat]; done) | (simp [va_rf_cat, int_cat, long_cat]; decide)) (fun ls hl => ?_)
  refine hv_aload_n (r := p0) E.1 E.2.1 dJ9_copyOfRangeByte_14 rfl (lv_at hl 2 rfl) ?_
  refine lv_iload_n E.1 E.2.1 dJ9_copyOfRangeByte_15 rfl (lv_at hl 3 rfl) ?_
  refine hv_aload (r := some a4) E.1 E.2.1 dJ9_copyOfRangeByte_16 (lv_at hl 0 rfl) ?_
  refine lv_iconst (v := nI 0) E.1 E.2.1 dJ9_copyOfRangeByte_18 rfl ?_
  refine hv_aload_n (r := p0) E.1 E.2.1 dJ9_copyOfRangeByte_19 rfl (lv_at hl 2 rfl) ?_
  obtain ⟨a6, ea6, hw⟩ := hw
  revert hl hw; subst ea6; intro hl hw
  obtain ⟨n7, g8, hra, hw⟩ := hw
  refine hv_alen (t := 3) E hK hI hra rfl dJ9_copyOfRangeByte_20 ?_
  refine lv_iload_n E.1 E.2.1 dJ9_copyOfRangeByte_21 rfl (lv_at hl 3 rfl) ?_
  refine lv_isub E.1 E.2.1 dJ9_copyOfRangeByte_22 ?_
  refine lv_iload_n E.1 E.2.1 dJ9_copyOfRangeByte_23 rfl (lv_at hl 1 rfl) ?_
  refine va_mmin (rest := [.int (nI 0), va_rf (some a4), .int (i1), va_rf (some a6)]) E.1 E.2.1 (by rw [E.2.2.1]; exact hl.1.symm) E.2.2.2.1 (E.2.2.2.2 _ q410) (E.2.2.2.2 _ q411) (E.2.2.2.2 _ q135) (E.2.2.2.2 _ q412) (mm_fr _) (mm_lo _ (by first | exact Nat.zero_le _ | decide | (simp [va_rf_cat, int_cat, long_cat]; done) | (simp [va_rf_cat, int_cat, long_cat]; decide))) (by first | exact hu | exact Nat.le_refl 0) (mm_sl (by first | exact hu | exact Nat.le_refl 0)) dJ9_copyOfRangeByte_24 ?_
  obtain ⟨n9, n10, k13, k14, k15, g11, g12, ⟨e3, e4, e5⟩, h1, h2, h3, h4, h5, h6, h7, hw⟩ := hw
  refine W.eq (g2 := F0 m 27 ls (.int (nI k13) :: .int (nI k14) :: va_rf (some a4) :: .int (nI k15) :: va_rf (some a6) :: [])) (by first | rw [← e3, ← e4, ← e5] | rw [e3, e4, e5]) ?_
  refine hv_copyb E hK hI q413 q415 q414 q137 hl.1 h1 h2 h3 h4 h5 h6 h7 (by first | rfl | decide | (simp [va_rf_cat, int_cat, long_cat]; done) | (simp [va_rf_cat, int_cat, long_cat]; decide)) dJ9_copyOfRangeByte_27 (fun H locs hI => ?_)
  obtain ⟨y16, ey16⟩ : ∃ w, w = hput y3 a4 (ai 3 n10 (va_cpy g11 g12 k15 k14 k13)) := ⟨_, rfl⟩
  rw [← ey16] at hI
  replace hw := hw y16 ey16
  refine hv_aload (r := some a4) E.1 E.2.1 dJ9_copyOfRangeByte_30 (lv_at hl 0 rfl) ?_
  exact hv_aret (r := some a4) E hr (Or.inr ⟨_, rfl⟩) hlocks hI hu hw dJ9_copyOfRangeByte_32
/-- java/util/Arrays.copyOfRange([BII)[B -/
def wp_J9_copyOfRange (G : GP) (B : Nat) (post : Option Nat → HS → Prop) (y0 : HS) (p0 : Option Nat) (i1 : Int32) (i2 : Int32) : Prop := ∃ J1 : HS → Nat → Prop, (∀ (y3 : HS) (u4 : Nat), J1 y3 u4 → u4 ≤ B ∧ ∃ k7, u4 + k7 ≤ B ∧ wp_J9_copyOfRangeByte G k7 (fun r6 y5 => post r6 y5) y3 p0 i1 i2) ∧ ((¬ i1 = 0 → J1 y0 0 ) ∧ (i1 = 0 → ∃ a9, p0 = some a9 ∧ ∃ (n10 : Nat) (g11 : Nat → Int32), rd G y0 a9 (ai 3 n10 g11) ∧ (i2 = (nI n10) → False) ∧ (¬ i2 = (nI n10) → J1 y0 0 )))
theorem hs_J9_copyOfRange : yJ9_copyOfRange.cls ≠ "java/lang/invoke/MethodHandle" ∧ yJ9_copyOfRange.cls ≠ "java/lang/invoke/VarHandle" ∧ (parseMethodDescriptor yJ9_copyOfRange.desc).map (fun d => d.parameters.length) = some 3 := by decide +kernel
set_option maxHeartbeats 4000000 in
theorem met_J9_copyOfRange (l : Launch) (G : GP) (d : Nat) {B : Nat} {post : Option Nat → HS → Prop} {y0 : HS} {p0 : Option Nat} {i1 : Int32} {i2 : Int32} (hw : wp_J9_copyOfRange G B post y0 p0 i1 i2) : vx_Met l yJ9_copyOfRange (ws_ yJ9_copyOfRange cJ9_copyOfRange 3 (some (.array .byte))) (rmB (d + 2) B) (hPc G y0 [va_rf p0, .int (i1), .int (i2)]) (hQq G y0 post) (hX G y0 (fun _ _ _ => False)) B (20 * B) (HA y0) := by
  unfold wp_J9_copyOfRange at hw
  refine hv_met (own := RJ9) (by decide) rfl (by simp [lg_sl, va_rf_cat, int_cat, long_cat]) ?_
  intro p e s m args below meth c ls E hr hlocks hnm hE hK hI hl
  replace hl : lv_has ls 3 [(0, va_rf p0), (1, .int (i1)), (2, .int (i2))] := by simpa [lv_args, va_rf_cat, int_cat, long_cat] using hl
  have hu : 0 ≤ B := Nat.zero_le _
  obtain ⟨J1, hj13, hw⟩ := hw
  have jh2 : ∀ (y3 : HS) (u4 : Nat), J1 y3 u4 → ∀ (H : Heap) (locs : List Loc) (ls : Array Slot), HI G y0 y3 s H locs → lv_has ls 3 [(0, va_rf p0), (1, .int (i1)), (2, .int (i2))] → W p l e (rmB (d + 2) B) s m args below meth c H locs u4 (20 * u4) (vx_MQ below (hQq G y0 post) (hX G y0 (fun _ _ _ => False)) args s B (20 * B) (HA y0)) (F0 m 10 ls []) := by
    intro y3 u4 hw H locs ls hI hl
    replace hw := hj13 y3 u4 hw
    obtain ⟨hu, hw⟩ := hw
    refine hv_aload_n (r := p0) E.1 E.2.1 dJ9_copyOfRange_10 rfl (lv_at hl 0 rfl) ?_
    refine lv_iload_n E.1 E.2.1 dJ9_copyOfRange_11 rfl (lv_at hl 1 rfl) ?_
    refine lv_iload_n E.1 E.2.1 dJ9_copyOfRange_12 rfl (lv_at hl 2 rfl) ?_
    obtain ⟨k7, hB, hw⟩ := hw
    have hq := hw
    clear hw
    refine hv_callq (u := u4) (B1 := k7) hI (vx_runS (As := [va_rf p0, .int (i1), .int (i2)]) (rest := []) E (met_J9_copyOfRangeByte l G (d) hq) (va_cwS 3 E.2.2.2.2 (lw_S q492 q493 q136 q494) rfl rfl rfl hs_J9_copyOfRangeByte (rm_ok (by omega) (by decide))) (hv_preS hK hI) rfl rfl hl.1 rfl (lv_room (by first | rfl | decide | (simp [va_rf_cat, int_cat, long_cat]; done) | (simp [va_rf_cat, int_cat, long_cat]; decide))) dJ9_copyOfRange_13 (hv_fit (by first | exact hB | omega))) (fun _ _ _ _ _ h => h.elim) (fun r6 y5 H locs hw hI => ?_)
    have hu := hB
    exact hv_aret (r := r6) E hr (Or.inr ⟨_, rfl⟩) hlocks hI hu hw dJ9_copyOfRange_16
  refine lv_iload_n E.1 E.2.1 dJ9_copyOfRange_0 rfl (lv_at hl 1 rfl) ?_
  refine lv_if_ne (tgt := 10) E.1 E.2.1 dJ9_copyOfRange_1 (by decide) (fun c8 => ?_) (fun c8 => ?_)
  · replace hw := hw.1 (c8)
    exact jh2 _ _ hw _ _ _ hI (lv_sub hl [0, 1, 2] rfl)
  · replace hw := hw.2 (c8)
    refine lv_iload_n E.1 E.2.1 dJ9_copyOfRange_4 rfl (lv_at hl 2 rfl) ?_
    refine hv_aload_n (r := p0) E.1 E.2.1 dJ9_copyOfRange_5 rfl (lv_at hl 0 rfl) ?_
    obtain ⟨a9, ea9, hw⟩ := hw
    revert hl hw; subst ea9; intro hl hw
    obtain ⟨n10, g11, hra, hw⟩ := hw
    refine hv_alen (t := 3) E hK hI hra rfl dJ9_copyOfRange_6 ?_
    refine lv_icmp_eq (tgt := 17) E.1 E.2.1 dJ9_copyOfRange_7 (by decide) (fun c12 => ?_) (fun c12 => ?_)
    · replace hw := hw.1 (c12)
      refine hv_aload_n (r := some a9) E.1 E.2.1 dJ9_copyOfRange_17 rfl (lv_at hl 0 rfl) ?_
      exact hw.elim
    · replace hw := hw.2 (c12)
      exact jh2 _ _ hw _ _ _ hI (lv_sub hl [0, 1, 2] rfl)
/-- java/lang/String.<init>(Ljava/lang/AbstractStringBuilder;Ljava/lang/Void;)V -/
def wp_J5_init_2 (G : GP) (B : Nat) (post : HS → Prop) (y0 : HS) (a0 : Nat) (p1 : Option Nat) (p2 : Option Nat) : Prop := ∃ a1, p1 = some a1 ∧ (∃ fs4, rd G y0 a1 (ob 19 fs4)) ∧ wp_J3_getValue_r19 G (fun r3 y2 => (∃ fs7, rd G y2 a1 (ob 19 fs7)) ∧ wp_J4_length G (fun x6 y5 => (∃ fs10, rd G y5 a1 (ob 19 fs10)) ∧ wp_J3_isLatin1_r19 G (fun b9 y8 => (b9 = false → ∃ J12 : HS → Nat → Prop, (∀ (y14 : HS) (u15 : Nat), J12 y14 u15 → u15 ≤ B ∧ ∃ fs17, y14.1 a0 = some (ob 20 fs17) ∧ 1 < fs17.length ∧ ∀ y16, y16 = hput y14 a0 (ob 20 (fs17.set 1 (.int (nI 1)))) → ∃ k20, u15 + k20 ≤ B ∧ wp_J9_copyOfRange G k20 (fun r19 y18 => ∃ fs22, y18.1 a0 = some (ob 20 fs22) ∧ 0 < fs22.length ∧ ∀ y21, y21 = hput y18 a0 (ob 20 (fs22.set 0 (va_rf r19))) → post y21) y16 r3 (nI 0) (x6 <<< ((nI 1) &&& 31))) ∧ (((nI 1) = 0 → J12 y8 0 ) ∧ (¬ (nI 1) = 0 → ∃ f24, fI y8 a1 19 2 f24 ∧ (f24 = 0 → J12 y8 0 ) ∧ (¬ f24 = 0 → False)))) ∧ (b9 = true → ∃ fs28, y8.1 a0 = some (ob 20 fs28) ∧ 1 < fs28.length ∧ ∀ y27, y27 = hput y8 a0 (ob 20 (fs28.set 1 (.int (nI 0)))) → ∃ k31, 0 + k31 ≤ B ∧ wp_J9_copyOfRange G k31 (fun r30 y29 => ∃ fs33, y29.1 a0 = some (ob 20 fs33) ∧ 0 < fs33.length ∧ ∀ y32, y32 = hput y29 a0 (ob 20 (fs33.set 0 (va_rf r30))) → post y32) y27 r3 (nI 0) x6)) y5 a1) y2 a1) y0 a1
theorem hs_J5_init_2 : yJ5_init_2.cls ≠ "java/lang/invoke/MethodHandle" ∧ yJ5_init_2.cls ≠ "java/lang/invoke/VarHandle" ∧ (parseMethodDescriptor yJ5_init_2.desc).map (fun d => d.parameters.length) = some 2 := by decide +kernel
set_option maxHeartbeats 4000000 in
theorem met_J5_init_2 (l : Launch) (G : GP) (d : Nat) {B : Nat} {post : HS → Prop} {y0 : HS} {a0 : Nat} {p1 : Option Nat} {p2 : Option Nat} (hw : wp_J5_init_2 G B post y0 a0 p1 p2) : vx_Met l yJ5_init_2 (ws_ yJ5_init_2 cJ5_init_2 5 none) (rmB (d + 3) B) (hPc G y0 [va_rf (some a0), va_rf p1, va_rf p2]) (hQv G y0 post) (hX G y0 (fun _ _ _ => False)) B (20 * B) (HA y0) := by
  unfold wp_J5_init_2 at hw
  refine hv_met (own := RJ5) (by decide) rfl (by simp [lg_sl, va_rf_cat, int_cat, long_cat]) ?_
  intro p e s m args below meth c ls E hr hlocks hnm hE hK hI hl
  replace hl : lv_has ls 5 [(0, va_rf (some a0)), (1, va_rf p1), (2, va_rf p2)] := by simpa [lv_args, va_rf_cat, int_cat, long_cat] using hl
  have hu : 0 ≤ B := Nat.zero_le _
  refine hv_aload_n (r := some a0) E.1 E.2.1 dJ5_init_2_0 rfl (lv_at hl 0 rfl) ?_
  refine hv_objInit (r := some a0) E q481 hl.1 rfl (by first | rfl | decide | (simp [va_rf_cat, int_cat, long_cat]; done) | (simp [va_rf_cat, int_cat, long_cat]; decide)) dJ5_init_2_1 ?_
  refine hv_aload_n (r := p1) E.1 E.2.1 dJ5_init_2_4 rfl (lv_at hl 1 rfl) ?_
  obtain ⟨a1, ea1, hw⟩ := hw
  revert hl hw; subst ea1; intro hl hw
  obtain ⟨⟨fs4, hrv⟩, hw⟩ := hw
  have hq := hw
  clear hw
  refine hv_callq (u := 0) (B1 := 0) hI (vx_runU (C := "java/lang/StringBuilder") (owner := "java/lang/AbstractStringBuilder") (x := ⟨"java/lang/AbstractStringBuilder", "getValue", "()[B"⟩) (As := []) (rest := []) E (met_J3_getValue_r19 l G (d + 2) hq) (cw_any 0 E.2.2.2.2 (lw_meth q486) rfl rfl q482 q484 (E.2.2.2.2 _ q485) q483 q130 (va_Decl.of (E.2.2.2.2 _ q483) (E.2.2.2.2 _ q486)) (by decide +kernel) (rm_ok (by omega) (by decide))) (hv_preV hK hI hrv rfl) rfl rfl hl.1 rfl (lv_room (by first | rfl | decide | (simp [va_rf_cat, int_cat, long_cat]; done) | (simp [va_rf_cat, int_cat, long_cat]; decide))) dJ5_init_2_5 (hv_fit (by first | exact hu | omega))) (fun _ _ _ _ _ h => h.elim) (fun r3 y2 H locs hw hI => ?_)
  refine hv_astore_n (r := r3) (lv' := [(3, va_rf r3), (0, va_rf (some a0)), (1, va_rf (some a1)), (2, va_rf p2)]) E.1 E.2.1 dJ5_init_2_8 rfl hl (Nat.le_of_ble_eq_true rfl) (by first | rfl | decide | (simp [va_rf_cat, int_cat, long_cat]; done) | (simp [va_rf_cat, int_cat, long_cat]; decide)) (fun ls hl => ?_)
  refine hv_aload_n (r := some a1) E.1 E.2.1 dJ5_init_2_9 rfl (lv_at hl 2 rfl) ?_
  obtain ⟨⟨fs7, hrv⟩, hw⟩ := hw
  have hq := hw
  clear hw
  refine hv_calli (u := 0) (B1 := 0) hI (vx_runU (C := "java/lang/StringBuilder") (owner := "java/lang/AbstractStringBuilder") (x := ⟨"java/lang/AbstractStringBuilder", "length", "()I"⟩) (As := []) (rest := []) E (met_J4_length l G (d + 1) hq) (cw_any 0 E.2.2.2.2 (lw_meth q370) rfl rfl q487 q2453 (E.2.2.2.2 _ q2458) q368 q131 (va_Decl.of (E.2.2.2.2 _ q372) (E.2.2.2.2 _ q373)) (by decide +kernel) (rm_ok (by omega) (by decide))) (hv_preV hK hI hrv rfl) rfl rfl hl.1 rfl (lv_room (by first | rfl | decide | (simp [va_rf_cat, int_cat, long_cat]; done) | (simp [va_rf_cat, int_cat, long_cat]; decide))) dJ5_init_2_10 (hv_fit (by first | exact hu | omega))) (fun _ _ _ _ _ h => h.elim) (fun x6 y5 H locs hw hI => ?_)
  refine lv_istore (lv' := [(4, .int (x6)), (3, va_rf r3), (0, va_rf (some a0)), (1, va_rf (some a1)), (2, va_rf p2)]) E.1 E.2.1 dJ5_init_2_13 hl (Nat.le_of_ble_eq_true rfl) (by first | rfl | decide | (simp [va_rf_cat, int_cat, long_cat]; done) | (simp [va_rf_cat, int_cat, long_cat]; decide)) (fun ls hl => ?_)
  refine hv_aload_n (r := some a1) E.1 E.2.1 dJ5_init_2_15 rfl (lv_at hl 3 rfl) ?_
  obtain ⟨⟨fs10, hrv⟩, hw⟩ := hw
  have hq := hw
  clear hw
  refine hv_callz (u := 0) (B1 := 0) hI (vx_runU (C := "java/lang/StringBuilder") (owner := "java/lang/AbstractStringBuilder") (x := ⟨"java/lang/AbstractStringBuilder", "isLatin1", "()Z"⟩) (As := []) (rest := []) E (met_J3_isLatin1_r19 l G (d + 2) hq) (cw_any 0 E.2.2.2.2 (lw_meth q420) rfl rfl q488 q418 (E.2.2.2.2 _ q419) q417 q130 (va_Decl.of (E.2.2.2.2 _ q417) (E.2.2.2.2 _ q420)) (by decide +kernel) (rm_ok (by omega) (by decide))) (hv_preV hK hI hrv rfl) rfl rfl hl.1 rfl (lv_room (by first | rfl | decide | (simp [va_rf_cat, int_cat, long_cat]; done) | (simp [va_rf_cat, int_cat, long_cat]; decide))) dJ5_init_2_16 (hv_fit (by first | exact hu | omega))) (fun _ _ _ _ _ h => h.elim) (fun b9 y8 H locs hw hI => ?_)
  refine lv_if_eq (tgt := 41) E.1 E.2.1 dJ5_init_2_19 (by decide) (fun c11 => ?_) (fun c11 => ?_)
  · replace hw := hw.1 (bi_z c11)
    obtain ⟨J12, hj26, hw⟩ := hw
    have jh13 : ∀ (y14 : HS) (u15 : Nat), J12 y14 u15 → ∀ (H : Heap) (locs : List Loc) (ls : Array Slot), HI G y0 y14 s H locs → lv_has ls 5 [(0, va_rf (some a0)), (3, va_rf r3), (4, .int (x6))] → W p l e (rmB (d + 3) B) s m args below meth c H locs u15 (20 * u15) (vx_MQ below (hQv G y0 post) (hX G y0 (fun _ _ _ => False)) args s B (20 * B) (HA y0)) (F0 m 79 ls []) := by
      intro y14 u15 hw H locs ls hI hl
      replace hw := hj26 y14 u15 hw
      obtain ⟨hu, hw⟩ := hw
      refine hv_aload_n (r := some a0) E.1 E.2.1 dJ5_init_2_79 rfl (lv_at hl 0 rfl) ?_
      refine lv_iconst (v := nI 1) E.1 E.2.1 dJ5_init_2_80 rfl ?_
      obtain ⟨fs17, hfs, hln, hw⟩ := hw
      refine hv_putF (v := .int (nI 1)) E hK hI ciJ5 1 (Nat.le_of_ble_eq_true rfl) q513 (fun _ h => h) rfl hnm rfl rfl rfl hfs hln dJ5_init_2_81 (fun H locs hI => ?_)
      obtain ⟨y16, ey16⟩ : ∃ w, w = hput y14 a0 (ob 20 (fs17.set 1 (.int (nI 1)))) := ⟨_, rfl⟩
      rw [← ey16] at hI
      replace hw := hw y16 ey16
      refine hv_aload_n (r := some a0) E.1 E.2.1 dJ5_init_2_84 rfl (lv_at hl 0 rfl) ?_
      refine hv_aload_n (r := r3) E.1 E.2.1 dJ5_init_2_85 rfl (lv_at hl 1 rfl) ?_
      refine lv_iconst (v := nI 0) E.1 E.2.1 dJ5_init_2_86 rfl ?_
      refine lv_iload E.1 E.2.1 dJ5_init_2_87 (lv_at hl 2 rfl) ?_
      refine lv_iconst (v := nI 1) E.1 E.2.1 dJ5_init_2_89 rfl ?_
      refine lv_ishl E.1 E.2.1 dJ5_init_2_90 ?_
      obtain ⟨k20, hB, hw⟩ := hw
      have hq := hw
      clear hw
      refine hv_callq (u := u15) (B1 := k20) hI (vx_runS (As := [va_rf r3, .int (nI 0), .int (x6 <<< ((nI 1) &&& 31))]) (rest := [va_rf (some a0)]) E (met_J9_copyOfRange l G (d) hq) (va_cwS 3 E.2.2.2.2 (lw_S q489 q490 q136 q491) rfl rfl rfl hs_J9_copyOfRange (rm_ok (by omega) (by decide))) (hv_preS hK hI) rfl rfl hl.1 rfl (lv_room (by first | rfl | decide | (simp [va_rf_cat, int_cat, long_cat]; done) | (simp [va_rf_cat, int_cat, long_cat]; decide))) dJ5_init_2_91 (hv_fit (by first | exact hB | omega))) (fun _ _ _ _ _ h => h.elim) (fun r19 y18 H locs hw hI => ?_)
      have hu := hB
      obtain ⟨fs22, hfs, hln, hw⟩ := hw
      refine hv_putF (v := va_rf r19) E hK hI ciJ5 0 (Nat.le_of_ble_eq_true rfl) q512 (fun _ h => h) rfl hnm rfl (rf_nar _ _ rfl) (rf_fit _ _ rfl) hfs hln dJ5_init_2_94 (fun H locs hI => ?_)
      obtain ⟨y21, ey21⟩ : ∃ w, w = hput y18 a0 (ob 20 (fs22.set 0 (va_rf r19))) := ⟨_, rfl⟩
      rw [← ey21] at hI
      replace hw := hw y21 ey21
      exact hv_vret E hr hlocks hI hu hw dJ5_init_2_97
    refine hv_gets (v := .int (nI 1)) E hK hI 0 rfl q498 (fun _ h => h) dJ5_init_2_41 ?_
    refine lv_if_eq (tgt := 79) E.1 E.2.1 dJ5_init_2_44 (by decide) (fun c23 => ?_) (fun c23 => ?_)
    · replace hw := hw.1 (c23)
      exact jh13 _ _ hw _ _ _ hI (lv_sub hl [2, 1, 0] rfl)
    · replace hw := hw.2 (c23)
      refine hv_aload_n (r := some a1) E.1 E.2.1 dJ5_init_2_47 rfl (lv_at hl 3 rfl) ?_
      obtain ⟨f24, ⟨fs, hfs, hfk⟩, hw⟩ := hw
      refine hv_get (v := .int f24) E hK hI ciJ4 2 (Nat.le_of_ble_eq_true rfl) q355 (fun _ h => h) (Or.inl hfs) hfk dJ5_init_2_48 ?_
      refine lv_if_eq (tgt := 79) E.1 E.2.1 dJ5_init_2_51 (by decide) (fun c25 => ?_) (fun c25 => ?_)
      · replace hw := hw.1 (c25)
        exact jh13 _ _ hw _ _ _ hI (lv_sub hl [2, 1, 0] rfl)
      · replace hw := hw.2 (c25)
        refine hv_aload_n (r := some a0) E.1 E.2.1 dJ5_init_2_54 rfl (lv_at hl 2 rfl) ?_
        refine hv_aload_n (r := r3) E.1 E.2.1 dJ5_init_2_55 rfl (lv_at hl 1 rfl) ?_
        refine lv_iconst (v := nI 0) E.1 E.2.1 dJ5_init_2_56 rfl ?_
        refine lv_iload E.1 E.2.1 dJ5_init_2_57 (lv_at hl 0 rfl) ?_
        exact hw.elim
  · replace hw := hw.2 (bi_n c11)
    refine hv_aload_n (r := some a0) E.1 E.2.1 dJ5_init_2_22 rfl (lv_at hl 2 rfl) ?_
    refine lv_iconst (v := nI 0) E.1 E.2.1 dJ5_init_2_23 rfl ?_
    obtain ⟨fs28, hfs, hln, hw⟩ := hw
    refine hv_putF (v := .int (nI 0)) E hK hI ciJ5 1 (Nat.le_of_ble_eq_true rfl) q513 (fun _ h => h) rfl hnm rfl rfl rfl hfs hln dJ5_init_2_24 (fun H locs hI => ?_)
    obtain ⟨y27, ey27⟩ : ∃ w, w = hput y8 a0 (ob 20 (fs28.set 1 (.int (nI 0)))) := ⟨_, rfl⟩
    rw [← ey27] at hI
    replace hw := hw y27 ey27
    refine hv_aload_n (r := some a0) E.1 E.2.1 dJ5_init_2_27 rfl (lv_at hl 2 rfl) ?_
    refine hv_aload_n (r := r3) E.1 E.2.1 dJ5_init_2_28 rfl (lv_at hl 1 rfl) ?_
    refine lv_iconst (v := nI 0) E.1 E.2.1 dJ5_init_2_29 rfl ?_
    refine lv_iload E.1 E.2.1 dJ5_init_2_30 (lv_at hl 0 rfl) ?_
    obtain ⟨k31, hB, hw⟩ := hw
    have hq := hw
    clear hw
    refine hv_callq (u := 0) (B1 := k31) hI (vx_runS (As := [va_rf r3, .int (nI 0), .int (x6)]) (rest := [va_rf (some a0)]) E (met_J9_copyOfRange l G (d) hq) (va_cwS 3 E.2.2.2.2 (lw_S q489 q490 q136 q491) rfl rfl rfl hs_J9_copyOfRange (rm_ok (by omega) (by decide))) (hv_preS hK hI) rfl rfl hl.1 rfl (lv_room (by first | rfl | decide | (simp [va_rf_cat, int_cat, long_cat]; done) | (simp [va_rf_cat, int_cat, long_cat]; decide))) dJ5_init_2_32 (hv_fit (by first | exact hB | omega))) (fun _ _ _ _ _ h => h.elim) (fun r30 y29 H locs hw hI => ?_)
    have hu := hB
    obtain ⟨fs33, hfs, hln, hw⟩ := hw
    refine hv_putF (v := va_rf r30) E hK hI ciJ5 0 (Nat.le_of_ble_eq_true rfl) q512 (fun _ h => h) rfl hnm rfl (rf_nar _ _ rfl) (rf_fit _ _ rfl) hfs hln dJ5_init_2_35 (fun H locs hI => ?_)
    obtain ⟨y32, ey32⟩ : ∃ w, w = hput y29 a0 (ob 20 (fs33.set 0 (va_rf r30))) := ⟨_, rfl⟩
    rw [← ey32] at hI
    replace hw := hw y32 ey32
    refine lv_goto (tgt := 97) E.1 E.2.1 dJ5_init_2_38 (by decide) ?_
    exact hv_vret E hr hlocks hI hu hw dJ5_init_2_97
/-- java/lang/String.<init>(Ljava/lang/StringBuilder;)V -/
def wp_J5_init (G : GP) (B : Nat) (post : HS → Prop) (y0 : HS) (a0 : Nat) (p1 : Option Nat) : Prop := ∃ k2, 0 + k2 ≤ B ∧ wp_J5_init_2 G k2 (fun y1 => post y1) y0 a0 p1 none
theorem hs_J5_init : yJ5_init.cls ≠ "java/lang/invoke/MethodHandle" ∧ yJ5_init.cls ≠ "java/lang/invoke/VarHandle" ∧ (parseMethodDescriptor yJ5_init.desc).map (fun d => d.parameters.length) = some 1 := by decide +kernel
set_option maxHeartbeats 4000000 in
theorem met_J5_init (l : Launch) (G : GP) (d : Nat) {B : Nat} {post : HS → Prop} {y0 : HS} {a0 : Nat} {p1 : Option Nat} (hw : wp_J5_init G B post y0 a0 p1) : vx_Met l yJ5_init (ws_ yJ5_init cJ5_init 2 none) (rmB (d + 4) B) (hPc G y0 [va_rf (some a0), va_rf p1]) (hQv G y0 post) (hX G y0 (fun _ _ _ => False)) B (20 * B) (HA y0) := by
  unfold wp_J5_init at hw
  refine hv_met (own := RJ5) (by decide) rfl (by simp [lg_sl, va_rf_cat, int_cat, long_cat]) ?_
  intro p e s m args below meth c ls E hr hlocks hnm hE hK hI hl
  replace hl : lv_has ls 2 [(0, va_rf (some a0)), (1, va_rf p1)] := by simpa [lv_args, va_rf_cat, int_cat, long_cat] using hl
  have hu : 0 ≤ B := Nat.zero_le _
  refine hv_aload_n (r := some a0) E.1 E.2.1 dJ5_init_0 rfl (lv_at hl 0 rfl) ?_
  refine hv_aload_n (r := p1) E.1 E.2.1 dJ5_init_1 rfl (lv_at hl 1 rfl) ?_
  refine lv_null E.1 E.2.1 dJ5_init_2 ?_
  obtain ⟨k2, hB, hw⟩ := hw
  have hq := hw
  clear hw
  refine hv_callv (u := 0) (B1 := k2) hI (vx_runI (b := a0) (As := [va_rf p1, va_rf none]) (rest := []) E (met_J5_init_2 l G (d) hq) (cwI 2 E.2.2.2.2 (lw_meth q480) rfl rfl rfl (E.2.2.2.2 _ q132) (E.2.2.2.2 _ q478) (E.2.2.2.2 _ q479) rfl hs_J5_init_2 (rm_ok (by omega) (by decide))) (hv_preS hK hI) rfl rfl hl.1 rfl (lv_room (by first | rfl | decide | (simp [va_rf_cat, int_cat, long_cat]; done) | (simp [va_rf_cat, int_cat, long_cat]; decide))) dJ5_init_3 (hv_fit (by first | exact hB | omega))) (fun _ _ _ _ _ h => h.elim) (fun y1 H locs hw hI => ?_)
  have hu := hB
  exact hv_vret E hr hlocks hI hu hw dJ5_init_6
/-- java/lang/StringBuilder.toString()Ljava/lang/String; -/
def wp_J4_toString (G : GP) (B : Nat) (post : Option Nat → HS → Prop) (y0 : HS) (a0 : Nat) : Prop := 0 + 1 ≤ B ∧ ∀ a2, a2 = y0.2 → ∀ y1, y1 = hnew y0 (ob 20 [va_rf none, .int 0, .int 0, .int 0]) → ∃ k4, (0 + 1) + k4 ≤ B ∧ wp_J5_init G k4 (fun y3 => post (some a2) y3) y1 a2 (some a0)
theorem hs_J4_toString : yJ4_toString.cls ≠ "java/lang/invoke/MethodHandle" ∧ yJ4_toString.cls ≠ "java/lang/invoke/VarHandle" ∧ (parseMethodDescriptor yJ4_toString.desc).map (fun d => d.parameters.length) = some 0 := by decide +kernel
theorem hd_J4_toString : yJ4_toString.cls = RJ4 ∧ yJ4_toString.cls ≠ "java/lang/invoke/MethodHandle" ∧ yJ4_toString.cls ≠ "java/lang/invoke/VarHandle" ∧ (parseMethodDescriptor yJ4_toString.desc).map (fun d => d.parameters.length) = some 0 := by decide +kernel
set_option maxHeartbeats 4000000 in
theorem met_J4_toString (l : Launch) (G : GP) (d : Nat) {B : Nat} {post : Option Nat → HS → Prop} {y0 : HS} {a0 : Nat} (hw : wp_J4_toString G B post y0 a0) : vx_Met l yJ4_toString (ws_ yJ4_toString cJ4_toString 1 (some (.object "java/lang/String"))) (rmB (d + 5) B) (hPc G y0 [va_rf (some a0)]) (hQq G y0 post) (hX G y0 (fun _ _ _ => False)) B (20 * B) (HA y0) := by
  unfold wp_J4_toString at hw
  refine hv_met (own := RJ4) (by decide) rfl (Nat.le_of_ble_eq_true rfl) ?_
  intro p e s m args below meth c ls E hr hlocks hnm hE hK hI hl
  replace hl : lv_has ls 1 [(0, va_rf (some a0))] := hl
  have hu : 0 ≤ B := Nat.zero_le _
  obtain ⟨hu, hw⟩ := hw
  refine hv_new (fs := [va_rf none, .int 0, .int 0, .int 0]) E hK hI ciJ5 q473 q474 q132 (df20) (Nat.le_of_ble_eq_true rfl) hu dJ4_toString_0 (fun H hI => ?_)
  obtain ⟨a2, ea2⟩ : ∃ w, w = y0.2 := ⟨_, rfl⟩
  obtain ⟨y1, ey1⟩ : ∃ w, w = hnew y0 (ob 20 [va_rf none, .int 0, .int 0, .int 0]) := ⟨_, rfl⟩
  rw [← ea2]
  rw [← ey1] at hI
  replace hw := hw a2 ea2 y1 ey1
  refine hv_dup E.1 E.2.1 dJ4_toString_3 ?_
  refine hv_aload_n (r := some a0) E.1 E.2.1 dJ4_toString_4 rfl (lv_at hl 0 rfl) ?_
  obtain ⟨k4, hB, hw⟩ := hw
  have hq := hw
  clear hw
  refine hv_callv (u := ((0 + 1))) (B1 := k4) hI (vx_runI (b := a2) (As := [va_rf (some a0)]) (rest := [va_rf (some a2)]) E (met_J5_init l G (d) hq) (cwI 1 E.2.2.2.2 (lw_meth q477) rfl rfl rfl (E.2.2.2.2 _ q132) (E.2.2.2.2 _ q475) (E.2.2.2.2 _ q476) rfl hs_J5_init (rm_ok (by omega) (by decide))) (hv_preS hK hI) rfl rfl hl.1 rfl (lv_room (by first | rfl | decide | (simp [va_rf_cat, int_cat, long_cat]; done) | (simp [va_rf_cat, int_cat, long_cat]; decide))) dJ4_toString_5 (hv_fit (by first | exact hB | omega))) (fun _ _ _ _ _ h => h.elim) (fun y3 H locs hw hI => ?_)
  have hu := hB
  exact hv_aret (r := some a2) E hr (Or.inl ⟨_, rfl⟩) hlocks hI hu hw dJ4_toString_8
/-- java/lang/StringBuilder.charAt(I)C -/
def wp_J4_charAt (G : GP) (post : Int32 → HS → Prop) (y0 : HS) (a0 : Nat) (i1 : Int32) : Prop := (∃ fs3, rd G y0 a0 (ob 19 fs3)) ∧ wp_J3_charAt_r19 G (fun x2 y1 => narrow .char (.int x2) = .int x2 ∧ post x2 y1) y0 a0 i1
theorem hs_J4_charAt : yJ4_charAt.cls ≠ "java/lang/invoke/MethodHandle" ∧ yJ4_charAt.cls ≠ "java/lang/invoke/VarHandle" ∧ (parseMethodDescriptor yJ4_charAt.desc).map (fun d => d.parameters.length) = some 1 := by decide +kernel
theorem hd_J4_charAt : yJ4_charAt.cls = RJ4 ∧ yJ4_charAt.cls ≠ "java/lang/invoke/MethodHandle" ∧ yJ4_charAt.cls ≠ "java/lang/invoke/VarHandle" ∧ (parseMethodDescriptor yJ4_charAt.desc).map (fun d => d.parameters.length) = some 1 := by decide +kernel
set_option maxHeartbeats 4000000 in
theorem met_J4_charAt (l : Launch) (G : GP) (d : Nat) {post : Int32 → HS → Prop} {y0 : HS} {a0 : Nat} {i1 : Int32} (hw : wp_J4_charAt G post y0 a0 i1) : vx_Met l yJ4_charAt (ws_ yJ4_charAt cJ4_charAt 2 (some .char)) (rmB (d + 3) 0) (hPc G y0 [va_rf (some a0), .int (i1)]) (hQi G y0 post) (hX G y0 (fun _ _ _ => False)) 0 (20 * 0) (HA y0) := by
  unfold wp_J4_charAt at hw
  refine hv_met (own := RJ4) (by decide) rfl (Nat.le_of_ble_eq_true rfl) ?_
  intro p e s m args below meth c ls E hr hlocks hnm hE hK hI hl
  replace hl : lv_has ls 2 [(0, va_rf (some a0)), (1, .int (i1))] := hl
  refine hv_aload_n (r := some a0) E.1 E.2.1 dJ4_charAt_0 rfl (lv_at hl 0 rfl) ?_
  refine lv_iload_n E.1 E.2.1 dJ4_charAt_1 rfl (lv_at hl 1 rfl) ?_
  obtain ⟨⟨fs3, hrv⟩, hw⟩ := hw
  have hq := hw
  clear hw
  refine hv_calli (u := 0) (B1 := 0) hI (vx_runSU (C := RJ4) (hK.1.1 19 (RJ4, TJ4, 4) rfl).2 (As := [.int (i1)]) (rest := []) E (met_J3_charAt_r19 l G (d) hq) (va_cwSU 1 E.2.2.2.2 (hSU_ws q533 q2459 q365 q534 q130 (lw_meth q535)) rfl rfl rfl (by decide +kernel) (rm_ok (by omega) (by decide))) (hv_preV hK hI hrv rfl) rfl rfl hl.1 rfl (lv_room (by first | rfl | decide | (simp [va_rf_cat, int_cat, long_cat]; done) | (simp [va_rf_cat, int_cat, long_cat]; decide))) dJ4_charAt_2 (hv_fit (by first | exact (Nat.le_refl 0) | omega))) (fun _ _ _ _ _ h => h.elim) (fun x2 y1 H locs hw hI => ?_)
  obtain ⟨hnr, hw⟩ := hw
  exact hv_iretn E hr hlocks hI (Nat.le_refl 0) hnr hw dJ4_charAt_5
/-- jdk/internal/util/ArraysSupport.signedHashCode(I[BII)I -/
def wp_J7_signedHashCode (G : GP) (post : Int32 → HS → Prop) (y0 : HS) (i0 : Int32) (p1 : Option Nat) (i2 : Int32) (i3 : Int32) : Prop := ∀ x1, x1 = i2 + i3 → ∃ I2 : Nat → HS → Int32 → Int32 → Prop, (∃ n9, I2 n9 y0 i0 i2) ∧ ∀ (n3 : Nat) (y4 : HS) (x7 : Int32) (x8 : Int32), I2 n3 y4 x7 x8 → (x1 ≤ x8 → post x7 y4) ∧ (¬ x1 ≤ x8 → ∃ a11, p1 = some a11 ∧ ∃ (n12 : Nat) (g13 : Nat → Int32), rd G y4 a11 (ai 3 n12 g13) ∧ vp_in x8 n12 ∧ ∀ x14, x14 = ((nI 31) * x7) + ((g13 x8.toNatClampNeg) &&& (nI 255)) → ∃ n15, n15 < n3 ∧ I2 n15 y4 x14 (x8 + nI 1))
theorem hs_J7_signedHashCode : yJ7_signedHashCode.cls ≠ "java/lang/invoke/MethodHandle" ∧ yJ7_signedHashCode.cls ≠ "java/lang/invoke/VarHandle" ∧ (parseMethodDescriptor yJ7_signedHashCode.desc).map (fun d => d.parameters.length) = some 4 := by decide +kernel
set_option maxHeartbeats 4000000 in
theorem met_J7_signedHashCode (l : Launch) (G : GP) (d : Nat) {post : Int32 → HS → Prop} {y0 : HS} {i0 : Int32} {p1 : Option Nat} {i2 : Int32} {i3 : Int32} (hw : wp_J7_signedHashCode G post y0 i0 p1 i2 i3) : vx_Met l yJ7_signedHashCode (ws_ yJ7_signedHashCode cJ7_signedHashCode 6 (some .int)) (rmB (d + 0) 0) (hPc G y0 [.int (i0), va_rf p1, .int (i2), .int (i3)]) (hQi G y0 post) (hX G y0 (fun _ _ _ => False)) 0 (20 * 0) (HA y0) := by
  unfold wp_J7_signedHashCode at hw
  refine hv_met (own := RJ7) (by decide) rfl (by simp [lg_sl, va_rf_cat, int_cat, long_cat]) ?_
  intro p e s m args below meth c ls E hr hlocks hnm hE hK hI hl
  replace hl : lv_has ls 6 [(0, .int (i0)), (1, va_rf p1), (2, .int (i2)), (3, .int (i3))] := by simpa [lv_args, va_rf_cat, int_cat, long_cat] using hl
  refine lv_iload_n E.1 E.2.1 dJ7_signedHashCode_0 rfl (lv_at hl 2 rfl) ?_
  refine lv_iload_n E.1 E.2.1 dJ7_signedHashCode_1 rfl (lv_at hl 3 rfl) ?_
  refine lv_iadd E.1 E.2.1 dJ7_signedHashCode_2 ?_
  refine lv_topi (fun x1 ex1 => ?_)
  replace hw := hw x1 ex1
  refine lv_istore (lv' := [(4, .int (x1)), (0, .int (i0)), (1, va_rf p1), (2, .int (i2)), (3, .int (i3))]) E.1 E.2.1 dJ7_signedHashCode_3 hl (Nat.le_of_ble_eq_true rfl) (by first | rfl | decide | (simp [va_rf_cat, int_cat, long_cat]; done) | (simp [va_rf_cat, int_cat, long_cat]; decide)) (fun ls hl => ?_)
  refine lv_iload_n E.1 E.2.1 dJ7_signedHashCode_5 rfl (lv_at hl 3 rfl) ?_
  refine lv_istore (lv' := [(5, .int (i2)), (4, .int (x1)), (0, .int (i0)), (1, va_rf p1), (2, .int (i2)), (3, .int (i3))]) E.1 E.2.1 dJ7_signedHashCode_6 hl (Nat.le_of_ble_eq_true rfl) (by first | rfl | decide | (simp [va_rf_cat, int_cat, long_cat]; done) | (simp [va_rf_cat, int_cat, long_cat]; decide)) (fun ls hl => ?_)
  obtain ⟨I2, ⟨n9, hi17⟩, hb16⟩ := hw
  have L6 : ∀ (n3 : Nat) (y4 : HS) (x7 : Int32) (x8 : Int32), I2 n3 y4 x7 x8 → ∀ (H : Heap) (locs : List Loc) (ls : Array Slot), HI G y0 y4 s H locs → lv_has ls 6 [(0, .int (x7)), (1, va_rf p1), (4, .int (x1)), (5, .int (x8))] → W p l e (rmB (d + 0) 0) s m args below meth c H locs 0 (20 * 0) (vx_MQ below (hQi G y0 post) (hX G y0 (fun _ _ _ => False)) args s 0 (20 * 0) (HA y0)) (F0 m 8 ls []) := by
    intro n3
    induction n3 using Nat.strongRecOn with
    | _ n3 ih5 =>
      intro y4 x7 x8 hw H locs ls hI hl
      replace hw := hb16 n3 y4 x7 x8 hw
      refine lv_iload E.1 E.2.1 dJ7_signedHashCode_8 (lv_at hl 3 rfl) ?_
      refine lv_iload E.1 E.2.1 dJ7_signedHashCode_10 (lv_at hl 2 rfl) ?_
      refine lv_icmp_ge (tgt := 35) E.1 E.2.1 dJ7_signedHashCode_12 (by decide) (fun c10 => ?_) (fun c10 => ?_)
      · replace hw := hw.1 (c10)
        refine lv_iload_n E.1 E.2.1 dJ7_signedHashCode_35 rfl (lv_at hl 0 rfl) ?_
        exact hv_ireti E hr hlocks hI (Nat.le_refl 0) hw dJ7_signedHashCode_36
      · replace hw := hw.2 (c10)
        refine lv_bipush (v := nI 31) E.1 E.2.1 dJ7_signedHashCode_15 rfl ?_
        refine lv_iload_n E.1 E.2.1 dJ7_signedHashCode_17 rfl (lv_at hl 0 rfl) ?_
        refine lv_imul E.1 E.2.1 dJ7_signedHashCode_18 ?_
        refine hv_aload_n (r := p1) E.1 E.2.1 dJ7_signedHashCode_19 rfl (lv_at hl 1 rfl) ?_
        refine lv_iload E.1 E.2.1 dJ7_signedHashCode_20 (lv_at hl 3 rfl) ?_
        obtain ⟨a11, ea11, hw⟩ := hw
        revert hl hw; subst ea11; intro hl hw
        obtain ⟨n12, g13, hra, hin, hw⟩ := hw
        refine hv_bald E hK hI hra hin dJ7_signedHashCode_22 ?_
        refine lv_sipush (v := nI 255) E.1 E.2.1 dJ7_signedHashCode_23 rfl ?_
        refine lv_iand E.1 E.2.1 dJ7_signedHashCode_26 ?_
        refine lv_iadd E.1 E.2.1 dJ7_signedHashCode_27 ?_
        refine lv_topi (fun x14 ex14 => ?_)
        replace hw := hw x14 ex14
        refine lv_istore_n (lv' := [(0, .int (x14)), (1, va_rf (some a11)), (4, .int (x1)), (5, .int (x8))]) E.1 E.2.1 dJ7_signedHashCode_28 rfl hl (Nat.le_of_ble_eq_true rfl) (by first | rfl | decide | (simp [va_rf_cat, int_cat, long_cat]; done) | (simp [va_rf_cat, int_cat, long_cat]; decide)) (fun ls hl => ?_)
        refine lv_iinc (k := 3) (v := x8 + nI 1) (lv' := [(5, .int (x8 + nI 1)), (0, .int (x14)), (1, va_rf (some a11)), (4, .int (x1))]) E.1 E.2.1 dJ7_signedHashCode_29 hl rfl rfl (Nat.le_of_ble_eq_true rfl) (by first | rfl | decide | (simp [va_rf_cat, int_cat, long_cat]; done) | (simp [va_rf_cat, int_cat, long_cat]; decide)) (fun ls hl => ?_)
        refine lv_goto (tgt := 8) E.1 E.2.1 dJ7_signedHashCode_32 (by decide) ?_
        obtain ⟨n15, hnn15, hin15⟩ := hw
        exact ih5 n15 hnn15 _ _ _ hin15 _ _ _ hI (lv_sub hl [1, 2, 3, 0] rfl)
  exact L6 n9 _ _ _ hi17 _ _ _ hI (lv_sub hl [2, 3, 1, 0] rfl)
/-- jdk/internal/util/ArraysSupport.vectorizedHashCode(Ljava/lang/Object;IIII)I -/
def wp_J7_vectorizedHashCode (G : GP) (post : Int32 → HS → Prop) (y0 : HS) (p0 : Option Nat) (i1 : Int32) (i2 : Int32) (i3 : Int32) (i4 : Int32) : Prop := (i4 = nI 4 → ∃ a2, p0 = some a2 ∧ ∃ (n3 : Nat) (g4 : Nat → Int32), rd G y0 a2 (ai 3 n3 g4) ∧ wp_J7_signedHashCode G (fun x6 y5 => post x6 y5) y0 i3 (some a2) i1 i2) ∧ (¬ i4 = nI 4 → (i4 = nI 5 → False) ∧ (¬ i4 = nI 5 → (i4 = nI 6 → False) ∧ (¬ i4 = nI 6 → (i4 = nI 7 → False) ∧ (¬ i4 = nI 7 → (i4 = nI 8 → False) ∧ (¬ i4 = nI 8 → (i4 = nI 9 → False) ∧ (¬ i4 = nI 9 → (i4 = nI 10 → False) ∧ (¬ i4 = nI 10 → False)))))))
theorem hs_J7_vectorizedHashCode : yJ7_vectorizedHashCode.cls ≠ "java/lang/invoke/MethodHandle" ∧ yJ7_vectorizedHashCode.cls ≠ "java/lang/invoke/VarHandle" ∧ (parseMethodDescriptor yJ7_vectorizedHashCode.desc).map (fun d => d.parameters.length) = some 5 := by decide +kernel
set_option maxHeartbeats 4000000 in
theorem met_J7_vectorizedHashCode (l : Launch) (G : GP) (d : Nat) {post : Int32 → HS → Prop} {y0 : HS} {p0 : Option Nat} {i1 : Int32} {i2 : Int32} {i3 : Int32} {i4 : Int32} (hw : wp_J7_vectorizedHashCode G post y0 p0 i1 i2 i3 i4) : vx_Met l yJ7_vectorizedHashCode (ws_ yJ7_vectorizedHashCode cJ7_vectorizedHashCode 5 (some .int)) (rmB (d + 1) 0) (hPc G y0 [va_rf p0, .int (i1), .int (i2), .int (i3), .int (i4)]) (hQi G y0 post) (hX G y0 (fun _ _ _ => False)) 0 (20 * 0) (HA y0) := by
  unfold wp_J7_vectorizedHashCode at hw
  refine hv_met (own := RJ7) (by decide) rfl (by simp [lg_sl, va_rf_cat, int_cat, long_cat]) ?_
  intro p e s m args below meth c ls E hr hlocks hnm hE hK hI hl
  replace hl : lv_has ls 5 [(0, va_rf p0), (1, .int (i1)), (2, .int (i2)), (3, .int (i3)), (4, .int (i4))] := by simpa [lv_args, va_rf_cat, int_cat, long_cat] using hl
  refine lv_iload E.1 E.2.1 dJ7_vectorizedHashCode_0 (lv_at hl 4 rfl) ?_
  by_cases c1 : i4 = nI 4
  · replace hw := hw.1 c1
    have hti : i4.toInt = 4 := by rw [c1]; decide
    refine lv_tableIn (tgt := 44) (off := 42) E.1 E.2.1 dJ7_vectorizedHashCode_2 (by rw [hti]; decide) (by rw [hti]; decide) (by rw [hti]; rfl) (by decide) ?_
    refine lv_iload_n E.1 E.2.1 dJ7_vectorizedHashCode_44 rfl (lv_at hl 3 rfl) ?_
    refine hv_aload_n (r := p0) E.1 E.2.1 dJ7_vectorizedHashCode_45 rfl (lv_at hl 0 rfl) ?_
    obtain ⟨a2, ea2, hw⟩ := hw
    revert hl hw; subst ea2; intro hl hw
    obtain ⟨n3, g4, hra, hw⟩ := hw
    refine hv_castB E hK hI hra q696 dJ7_vectorizedHashCode_46 ?_
    refine lv_iload_n E.1 E.2.1 dJ7_vectorizedHashCode_49 rfl (lv_at hl 1 rfl) ?_
    refine lv_iload_n E.1 E.2.1 dJ7_vectorizedHashCode_50 rfl (lv_at hl 2 rfl) ?_
    have hq := hw
    clear hw
    refine hv_calli (u := 0) (B1 := 0) hI (vx_runS (As := [.int (i3), va_rf (some a2), .int (i1), .int (i2)]) (rest := []) E (met_J7_signedHashCode l G (d) hq) (va_cwS 4 E.2.2.2.2 (lw_S q697 q698 q134 q699) rfl rfl rfl hs_J7_signedHashCode (rm_ok (by omega) (by decide))) (hv_preS hK hI) rfl rfl hl.1 rfl (lv_room (by first | rfl | decide | (simp [va_rf_cat, int_cat, long_cat]; done) | (simp [va_rf_cat, int_cat, long_cat]; decide))) dJ7_vectorizedHashCode_51 (hv_fit (by first | exact (Nat.le_refl 0) | omega))) (fun _ _ _ _ _ h => h.elim) (fun x6 y5 H locs hw hI => ?_)
    refine lv_goto (tgt := 157) E.1 E.2.1 dJ7_vectorizedHashCode_54 (by decide) ?_
    exact hv_ireti E hr hlocks hI (Nat.le_refl 0) hw dJ7_vectorizedHashCode_157
  replace hw := hw.2 c1
  by_cases c7 : i4 = nI 5
  · replace hw := hw.1 c7
    have hti : i4.toInt = 5 := by rw [c7]; decide
    refine lv_tableIn (tgt := 57) (off := 55) E.1 E.2.1 dJ7_vectorizedHashCode_2 (by rw [hti]; decide) (by rw [hti]; decide) (by rw [hti]; rfl) (by decide) ?_
    exact hw.elim
  replace hw := hw.2 c7
  by_cases c8 : i4 = nI 6
  · replace hw := hw.1 c8
    have hti : i4.toInt = 6 := by rw [c8]; decide
    refine lv_tableIn (tgt := 129) (off := 127) E.1 E.2.1 dJ7_vectorizedHashCode_2 (by rw [hti]; decide) (by rw [hti]; decide) (by rw [hti]; rfl) (by decide) ?_
    exact hw.elim
  replace hw := hw.2 c8
  by_cases c9 : i4 = nI 7
  · replace hw := hw.1 c9
    have hti : i4.toInt = 7 := by rw [c9]; decide
    refine lv_tableIn (tgt := 129) (off := 127) E.1 E.2.1 dJ7_vectorizedHashCode_2 (by rw [hti]; decide) (by rw [hti]; decide) (by rw [hti]; rfl) (by decide) ?_
    exact hw.elim
  replace hw := hw.2 c9
  by_cases c10 : i4 = nI 8
  · replace hw := hw.1 c10
    have hti : i4.toInt = 8 := by rw [c10]; decide
    refine lv_tableIn (tgt := 90) (off := 88) E.1 E.2.1 dJ7_vectorizedHashCode_2 (by rw [hti]; decide) (by rw [hti]; decide) (by rw [hti]; rfl) (by decide) ?_
    exact hw.elim
  replace hw := hw.2 c10
  by_cases c11 : i4 = nI 9
  · replace hw := hw.1 c11
    have hti : i4.toInt = 9 := by rw [c11]; decide
    refine lv_tableIn (tgt := 103) (off := 101) E.1 E.2.1 dJ7_vectorizedHashCode_2 (by rw [hti]; decide) (by rw [hti]; decide) (by rw [hti]; rfl) (by decide) ?_
    exact hw.elim
  replace hw := hw.2 c11
  by_cases c12 : i4 = nI 10
  · replace hw := hw.1 c12
    have hti : i4.toInt = 10 := by rw [c12]; decide
    refine lv_tableIn (tgt := 116) (off := 114) E.1 E.2.1 dJ7_vectorizedHashCode_2 (by rw [hti]; decide) (by rw [hti]; decide) (by rw [hti]; rfl) (by decide) ?_
    exact hw.elim
  replace hw := hw.2 c12
  refine lv_tableOut (tgt := 129) E.1 E.2.1 dJ7_vectorizedHashCode_2 (tab_out (fun j h1 h2 h3 => ?_)) (by decide) ?_
  · have hj : j = 4 ∨ j = 5 ∨ j = 6 ∨ j = 7 ∨ j = 8 ∨ j = 9 ∨ j = 10 := by omega
    rcases hj with rfl | rfl | rfl | rfl | rfl | rfl | rfl
    · exact c1 (Int32.toInt_inj.mp (by rw [h3]; decide))
    · exact c7 (Int32.toInt_inj.mp (by rw [h3]; decide))
    · exact c8 (Int32.toInt_inj.mp (by rw [h3]; decide))
    · exact c9 (Int32.toInt_inj.mp (by rw [h3]; decide))
    · exact c10 (Int32.toInt_inj.mp (by rw [h3]; decide))
    · exact c11 (Int32.toInt_inj.mp (by rw [h3]; decide))
    · exact c12 (Int32.toInt_inj.mp (by rw [h3]; decide))
  · skip
    exact hw.elim
/-- java/lang/StringLatin1.hashCode([B)I -/
def wp_J10_hashCode (G : GP) (post : Int32 → HS → Prop) (y0 : HS) (p0 : Option Nat) : Prop := ∃ a1, p0 = some a1 ∧ ∃ (n2 : Nat) (g3 : Nat → Int32), rd G y0 a1 (ai 3 n2 g3) ∧ ((nI n2) = nI 0 → post (nI 0) y0) ∧ (¬ (nI n2) = nI 0 → ((nI n2) = nI 1 → ∃ (n6 : Nat) (g7 : Nat → Int32), rd G y0 a1 (ai 3 n6 g7) ∧ vp_in (nI 0) n6 ∧ post ((g7 (nI 0).toNatClampNeg) &&& (nI 255)) y0) ∧ (¬ (nI n2) = nI 1 → ∃ (n8 : Nat) (g9 : Nat → Int32), rd G y0 a1 (ai 3 n8 g9) ∧ wp_J7_vectorizedHashCode G (fun x11 y10 => post x11 y10) y0 (some a1) (nI 0) (nI n8) (nI 0) (nI 4)))
theorem hs_J10_hashCode : yJ10_hashCode.cls ≠ "java/lang/invoke/MethodHandle" ∧ yJ10_hashCode.cls ≠ "java/lang/invoke/VarHandle" ∧ (parseMethodDescriptor yJ10_hashCode.desc).map (fun d => d.parameters.length) = some 1 := by decide +kernel
set_option maxHeartbeats 4000000 in
theorem met_J10_hashCode (l : Launch) (G : GP) (d : Nat) {post : Int32 → HS → Prop} {y0 : HS} {p0 : Option Nat} (hw : wp_J10_hashCode G post y0 p0) : vx_Met l yJ10_hashCode (ws_ yJ10_hashCode cJ10_hashCode 1 (some .int)) (rmB (d + 2) 0) (hPc G y0 [va_rf p0]) (hQi G y0 post) (hX G y0 (fun _ _ _ => False)) 0 (20 * 0) (HA y0) := by
  unfold wp_J10_hashCode at hw
  refine hv_met (own := RJ10) (by decide) rfl (by simp [lg_sl, va_rf_cat, int_cat, long_cat]) ?_
  intro p e s m args below meth c ls E hr hlocks hnm hE hK hI hl
  replace hl : lv_has ls 1 [(0, va_rf p0)] := by simpa [lv_args, va_rf_cat, int_cat, long_cat] using hl
  refine hv_aload_n (r := p0) E.1 E.2.1 dJ10_hashCode_0 rfl (lv_at hl 0 rfl) ?_
  obtain ⟨a1, ea1, hw⟩ := hw
  revert hl hw; subst ea1; intro hl hw
  obtain ⟨n2, g3, hra, hw⟩ := hw
  refine hv_alen (t := 3) E hK hI hra rfl dJ10_hashCode_1 ?_
  by_cases c4 : (nI n2) = nI 0
  · replace hw := hw.1 c4
    have hti : (nI n2).toInt = 0 := by rw [c4]; decide
    refine lv_lookup (tgt := 28) (off := 26) E.1 E.2.1 dJ10_hashCode_2 (by decide) (by rw [hti]; decide) (by decide) ?_
    refine lv_iconst (v := nI 0) E.1 E.2.1 dJ10_hashCode_28 rfl ?_
    refine lv_goto (tgt := 51) E.1 E.2.1 dJ10_hashCode_29 (by decide) ?_
    exact hv_ireti E hr hlocks hI (Nat.le_refl 0) hw dJ10_hashCode_51
  replace hw := hw.2 c4
  by_cases c5 : (nI n2) = nI 1
  · replace hw := hw.1 c5
    have hti : (nI n2).toInt = 1 := by rw [c5]; decide
    refine lv_lookup (tgt := 32) (off := 30) E.1 E.2.1 dJ10_hashCode_2 (by decide) (by rw [hti]; decide) (by decide) ?_
    refine hv_aload_n (r := some a1) E.1 E.2.1 dJ10_hashCode_32 rfl (lv_at hl 0 rfl) ?_
    refine lv_iconst (v := nI 0) E.1 E.2.1 dJ10_hashCode_33 rfl ?_
    obtain ⟨n6, g7, hra, hin, hw⟩ := hw
    refine hv_bald E hK hI hra hin dJ10_hashCode_34 ?_
    refine lv_sipush (v := nI 255) E.1 E.2.1 dJ10_hashCode_35 rfl ?_
    refine lv_iand E.1 E.2.1 dJ10_hashCode_38 ?_
    refine lv_goto (tgt := 51) E.1 E.2.1 dJ10_hashCode_39 (by decide) ?_
    exact hv_ireti E hr hlocks hI (Nat.le_refl 0) hw dJ10_hashCode_51
  replace hw := hw.2 c5
  refine lv_lookup (tgt := 42) (off := 40) E.1 E.2.1 dJ10_hashCode_2 (by decide) ((lv_osw c4 (by decide)).trans ((lv_osw c5 (by decide)).trans rfl)) (by decide) ?_
  · skip
    refine hv_aload_n (r := some a1) E.1 E.2.1 dJ10_hashCode_42 rfl (lv_at hl 0 rfl) ?_
    refine lv_iconst (v := nI 0) E.1 E.2.1 dJ10_hashCode_43 rfl ?_
    refine hv_aload_n (r := some a1) E.1 E.2.1 dJ10_hashCode_44 rfl (lv_at hl 0 rfl) ?_
    obtain ⟨n8, g9, hra, hw⟩ := hw
    refine hv_alen (t := 3) E hK hI hra rfl dJ10_hashCode_45 ?_
    refine lv_iconst (v := nI 0) E.1 E.2.1 dJ10_hashCode_46 rfl ?_
    refine lv_iconst (v := nI 4) E.1 E.2.1 dJ10_hashCode_47 rfl ?_
    have hq := hw
    clear hw
    refine hv_calli (u := 0) (B1 := 0) hI (vx_runS (As := [va_rf (some a1), .int (nI 0), .int (nI n8), .int (nI 0), .int (nI 4)]) (rest := []) E (met_J7_vectorizedHashCode l G (d) hq) (va_cwS 5 E.2.2.2.2 (lw_S q693 q694 q134 q695) rfl rfl rfl hs_J7_vectorizedHashCode (rm_ok (by omega) (by decide))) (hv_preS hK hI) rfl rfl hl.1 rfl (lv_room (by first | rfl | decide | (simp [va_rf_cat, int_cat, long_cat]; done) | (simp [va_rf_cat, int_cat, long_cat]; decide))) dJ10_hashCode_48 (hv_fit (by first | exact (Nat.le_refl 0) | omega))) (fun _ _ _ _ _ h => h.elim) (fun x11 y10 H locs hw hI => ?_)
    exact hv_ireti E hr hlocks hI (Nat.le_refl 0) hw dJ10_hashCode_51
/-- java/lang/String.isLatin1()Z -/
def wp_J5_isLatin1 (G : GP) (post : Bool → HS → Prop) (y0 : HS) (a0 : Nat) : Prop := ((nI 1) = 0 → post false y0) ∧ (¬ (nI 1) = 0 → ∃ f2, fIc G y0 a0 20 1 f2 ∧ (¬ f2 = 0 → post false y0) ∧ (f2 = 0 → post true y0))
theorem hs_J5_isLatin1 : yJ5_isLatin1.cls ≠ "java/lang/invoke/MethodHandle" ∧ yJ5_isLatin1.cls ≠ "java/lang/invoke/VarHandle" ∧ (parseMethodDescriptor yJ5_isLatin1.desc).map (fun d => d.parameters.length) = some 0 := by decide +kernel
theorem hd_J5_isLatin1 : yJ5_isLatin1.cls = RJ5 ∧ yJ5_isLatin1.cls ≠ "java/lang/invoke/MethodHandle" ∧ yJ5_isLatin1.cls ≠ "java/lang/invoke/VarHandle" ∧ (parseMethodDescriptor yJ5_isLatin1.desc).map (fun d => d.parameters.length) = some 0 := by decide +kernel
set_option maxHeartbeats 4000000 in
theorem met_J5_isLatin1 (l : Launch) (G : GP) (d : Nat) {post : Bool → HS → Prop} {y0 : HS} {a0 : Nat} (hw : wp_J5_isLatin1 G post y0 a0) : vx_Met l yJ5_isLatin1 (ws_ yJ5_isLatin1 cJ5_isLatin1 1 (some .boolean)) (rmB (d + 0) 0) (hPc G y0 [va_rf (some a0)]) (hQz G y0 post) (hX G y0 (fun _ _ _ => False)) 0 (20 * 0) (HA y0) := by
  unfold wp_J5_isLatin1 at hw
  refine hv_met (own := RJ5) (by decide) rfl (Nat.le_of_ble_eq_true rfl) ?_
  intro p e s m args below meth c ls E hr hlocks hnm hE hK hI hl
  replace hl : lv_has ls 1 [(0, va_rf (some a0))] := hl
  refine hv_gets (v := .int (nI 1)) E hK hI 0 rfl q498 (fun _ h => h) dJ5_isLatin1_0 ?_
  refine lv_if_eq (tgt := 17) E.1 E.2.1 dJ5_isLatin1_3 (by decide) (fun c1 => ?_) (fun c1 => ?_)
  · replace hw := hw.1 (c1)
    refine lv_iconst (v := nI 0) E.1 E.2.1 dJ5_isLatin1_17 rfl ?_
    exact hv_iretz (b := false) E hr hlocks hI (Nat.le_refl 0) rfl hw dJ5_isLatin1_18
  · replace hw := hw.2 (c1)
    refine hv_aload_n (r := some a0) E.1 E.2.1 dJ5_isLatin1_6 rfl (lv_at hl 0 rfl) ?_
    obtain ⟨f2, ⟨fs, hfs, hfk⟩, hw⟩ := hw
    refine hv_get (v := .int f2) E hK hI ciJ5 1 (Nat.le_of_ble_eq_true rfl) q513 (fun _ h => h) hfs hfk dJ5_isLatin1_7 ?_
    refine lv_if_ne (tgt := 17) E.1 E.2.1 dJ5_isLatin1_10 (by decide) (fun c3 => ?_) (fun c3 => ?_)
    · replace hw := hw.1 (c3)
      refine lv_iconst (v := nI 0) E.1 E.2.1 dJ5_isLatin1_17 rfl ?_
      exact hv_iretz (b := false) E hr hlocks hI (Nat.le_refl 0) rfl hw dJ5_isLatin1_18
    · replace hw := hw.2 (c3)
      refine lv_iconst (v := nI 1) E.1 E.2.1 dJ5_isLatin1_13 rfl ?_
      refine lv_goto (tgt := 18) E.1 E.2.1 dJ5_isLatin1_14 (by decide) ?_
      exact hv_iretz (b := true) E hr hlocks hI (Nat.le_refl 0) rfl hw dJ5_isLatin1_18
/-- java/lang/String.hashCode()I -/
def wp_J5_hashCode (G : GP) (post : Int32 → HS → Prop) (y0 : HS) (a0 : Nat) : Prop := ∃ f1, fIc G y0 a0 20 2 f1 ∧ (¬ f1 = 0 → post f1 y0) ∧ (f1 = 0 → ∃ f3, fIc G y0 a0 20 3 f3 ∧ (¬ f3 = 0 → post f1 y0) ∧ (f3 = 0 → (∃ fs7, rd G y0 a0 (ob 20 fs7)) ∧ wp_J5_isLatin1 G (fun b6 y5 => (b6 = false → ∃ f9, fRc G y5 a0 20 0 f9 ∧ False) ∧ (b6 = true → ∃ f10, fRc G y5 a0 20 0 f10 ∧ wp_J10_hashCode G (fun x12 y11 => (¬ x12 = 0 → ∃ fs15, y11.1 a0 = some (ob 20 fs15) ∧ 2 < fs15.length ∧ ∀ y14, y14 = hput y11 a0 (ob 20 (fs15.set 2 (.int (x12)))) → post x12 y14) ∧ (x12 = 0 → ∃ fs17, y11.1 a0 = some (ob 20 fs17) ∧ 3 < fs17.length ∧ ∀ y16, y16 = hput y11 a0 (ob 20 (fs17.set 3 (.int (nI 1)))) → post x12 y16)) y5 f10)) y0 a0))
theorem hs_J5_hashCode : yJ5_hashCode.cls ≠ "java/lang/invoke/MethodHandle" ∧ yJ5_hashCode.cls ≠ "java/lang/invoke/VarHandle" ∧ (parseMethodDescriptor yJ5_hashCode.desc).map (fun d => d.parameters.length) = some 0 := by decide +kernel
theorem hd_J5_hashCode : yJ5_hashCode.cls = RJ5 ∧ yJ5_hashCode.cls ≠ "java/lang/invoke/MethodHandle" ∧ yJ5_hashCode.cls ≠ "java/lang/invoke/VarHandle" ∧ (parseMethodDescriptor yJ5_hashCode.desc).map (fun d => d.parameters.length) = some 0 := by decide +kernel
set_option maxHeartbeats 4000000 in
theorem met_J5_hashCode (l : Launch) (G : GP) (d : Nat) {post : Int32 → HS → Prop} {y0 : HS} {a0 : Nat} (hw : wp_J5_hashCode G post y0 a0) : vx_Met l yJ5_hashCode (ws_ yJ5_hashCode cJ5_hashCode 2 (some .int)) (rmB (d + 3) 0) (hPc G y0 [va_rf (some a0)]) (hQi G y0 post) (hX G y0 (fun _ _ _ => False)) 0 (20 * 0) (HA y0) := by
  unfold wp_J5_hashCode at hw
  refine hv_met (own := RJ5) (by decide) rfl (Nat.le_of_ble_eq_true rfl) ?_
  intro p e s m args below meth c ls E hr hlocks hnm hE hK hI hl
  replace hl : lv_has ls 2 [(0, va_rf (some a0))] := hl
  refine hv_aload_n (r := some a0) E.1 E.2.1 dJ5_hashCode_0 rfl (lv_at hl 0 rfl) ?_
  obtain ⟨f1, ⟨fs, hfs, hfk⟩, hw⟩ := hw
  refine hv_get (v := .int f1) E hK hI ciJ5 2 (Nat.le_of_ble_eq_true rfl) q514 (fun _ h => h) hfs hfk dJ5_hashCode_1 ?_
  refine lv_istore_n (lv' := [(1, .int (f1)), (0, va_rf (some a0))]) E.1 E.2.1 dJ5_hashCode_4 rfl hl (Nat.le_of_ble_eq_true rfl) (by first | rfl | decide | (simp [va_rf_cat, int_cat, long_cat]; done) | (simp [va_rf_cat, int_cat, long_cat]; decide)) (fun ls hl => ?_)
  refine lv_iload_n E.1 E.2.1 dJ5_hashCode_5 rfl (lv_at hl 0 rfl) ?_
  refine lv_if_ne (tgt := 58) E.1 E.2.1 dJ5_hashCode_6 (by decide) (fun c2 => ?_) (fun c2 => ?_)
  · replace hw := hw.1 (c2)
    refine lv_iload_n E.1 E.2.1 dJ5_hashCode_58 rfl (lv_at hl 0 rfl) ?_
    exact hv_ireti E hr hlocks hI (Nat.le_refl 0) hw dJ5_hashCode_59
  · replace hw := hw.2 (c2)
    refine hv_aload_n (r := some a0) E.1 E.2.1 dJ5_hashCode_9 rfl (lv_at hl 1 rfl) ?_
    obtain ⟨f3, ⟨fs, hfs, hfk⟩, hw⟩ := hw
    refine hv_get (v := .int f3) E hK hI ciJ5 3 (Nat.le_of_ble_eq_true rfl) q515 (fun _ h => h) hfs hfk dJ5_hashCode_10 ?_
    refine lv_if_ne (tgt := 58) E.1 E.2.1 dJ5_hashCode_13 (by decide) (fun c4 => ?_) (fun c4 => ?_)
    · replace hw := hw.1 (c4)
      refine lv_iload_n E.1 E.2.1 dJ5_hashCode_58 rfl (lv_at hl 0 rfl) ?_
      exact hv_ireti E hr hlocks hI (Nat.le_refl 0) hw dJ5_hashCode_59
    · replace hw := hw.2 (c4)
      refine hv_aload_n (r := some a0) E.1 E.2.1 dJ5_hashCode_16 rfl (lv_at hl 1 rfl) ?_
      obtain ⟨⟨fs7, hrv⟩, hw⟩ := hw
      have hq := hw
      clear hw
      refine hv_callz (u := 0) (B1 := 0) hI (vx_runV (As := []) (rest := []) E (met_J5_isLatin1 l G (d + 2) hq) (cwV 0 E.2.2.2.2 (lw_V q686 q687 q688 q132 q689) rfl rfl rfl hd_J5_isLatin1 (rm_ok (by omega) (by decide))) (hv_preV hK hI hrv rfl) rfl rfl hl.1 rfl (lv_room (by first | rfl | decide | (simp [va_rf_cat, int_cat, long_cat]; done) | (simp [va_rf_cat, int_cat, long_cat]; decide))) dJ5_hashCode_17 (hv_fit (by first | exact (Nat.le_refl 0) | omega))) (fun _ _ _ _ _ h => h.elim) (fun b6 y5 H locs hw hI => ?_)
      refine lv_if_eq (tgt := 33) E.1 E.2.1 dJ5_hashCode_20 (by decide) (fun c8 => ?_) (fun c8 => ?_)
      · replace hw := hw.1 (bi_z c8)
        refine hv_aload_n (r := some a0) E.1 E.2.1 dJ5_hashCode_33 rfl (lv_at hl 1 rfl) ?_
        obtain ⟨f9, ⟨fs, hfs, hfk⟩, hw⟩ := hw
        refine hv_get (v := va_rf f9) E hK hI ciJ5 0 (Nat.le_of_ble_eq_true rfl) q512 (fun _ h => h) hfs hfk dJ5_hashCode_34 ?_
        exact hw.elim
      · replace hw := hw.2 (bi_n c8)
        refine hv_aload_n (r := some a0) E.1 E.2.1 dJ5_hashCode_23 rfl (lv_at hl 1 rfl) ?_
        obtain ⟨f10, ⟨fs, hfs, hfk⟩, hw⟩ := hw
        refine hv_get (v := va_rf f10) E hK hI ciJ5 0 (Nat.le_of_ble_eq_true rfl) q512 (fun _ h => h) hfs hfk dJ5_hashCode_24 ?_
        have hq := hw
        clear hw
        refine hv_calli (u := 0) (B1 := 0) hI (vx_runS (As := [va_rf f10]) (rest := []) E (met_J10_hashCode l G (d) hq) (va_cwS 1 E.2.2.2.2 (lw_S q690 q691 q138 q692) rfl rfl rfl hs_J10_hashCode (rm_ok (by omega) (by decide))) (hv_preS hK hI) rfl rfl hl.1 rfl (lv_room (by first | rfl | decide | (simp [va_rf_cat, int_cat, long_cat]; done) | (simp [va_rf_cat, int_cat, long_cat]; decide))) dJ5_hashCode_27 (hv_fit (by first | exact (Nat.le_refl 0) | omega))) (fun _ _ _ _ _ h => h.elim) (fun x12 y11 H locs hw hI => ?_)
        refine lv_goto (tgt := 40) E.1 E.2.1 dJ5_hashCode_30 (by decide) ?_
        refine lv_istore_n (lv' := [(1, .int (x12)), (0, va_rf (some a0))]) E.1 E.2.1 dJ5_hashCode_40 rfl hl (Nat.le_of_ble_eq_true rfl) (by first | rfl | decide | (simp [va_rf_cat, int_cat, long_cat]; done) | (simp [va_rf_cat, int_cat, long_cat]; decide)) (fun ls hl => ?_)
        refine lv_iload_n E.1 E.2.1 dJ5_hashCode_41 rfl (lv_at hl 0 rfl) ?_
        refine lv_if_ne (tgt := 53) E.1 E.2.1 dJ5_hashCode_42 (by decide) (fun c13 => ?_) (fun c13 => ?_)
        · replace hw := hw.1 (c13)
          refine hv_aload_n (r := some a0) E.1 E.2.1 dJ5_hashCode_53 rfl (lv_at hl 1 rfl) ?_
          refine lv_iload_n E.1 E.2.1 dJ5_hashCode_54 rfl (lv_at hl 0 rfl) ?_
          obtain ⟨fs15, hfs, hln, hw⟩ := hw
          refine hv_put (v := .int (x12)) E hK hI ciJ5 2 (Nat.le_of_ble_eq_true rfl) q514 (fun _ h => h) rfl rfl rfl hfs hln dJ5_hashCode_55 (fun H locs hI => ?_)
          obtain ⟨y14, ey14⟩ : ∃ w, w = hput y11 a0 (ob 20 (fs15.set 2 (.int (x12)))) := ⟨_, rfl⟩
          rw [← ey14] at hI
          replace hw := hw y14 ey14
          refine lv_iload_n E.1 E.2.1 dJ5_hashCode_58 rfl (lv_at hl 0 rfl) ?_
          exact hv_ireti E hr hlocks hI (Nat.le_refl 0) hw dJ5_hashCode_59
        · replace hw := hw.2 (c13)
          refine hv_aload_n (r := some a0) E.1 E.2.1 dJ5_hashCode_45 rfl (lv_at hl 1 rfl) ?_
          refine lv_iconst (v := nI 1) E.1 E.2.1 dJ5_hashCode_46 rfl ?_
          obtain ⟨fs17, hfs, hln, hw⟩ := hw
          refine hv_put (v := .int (nI 1)) E hK hI ciJ5 3 (Nat.le_of_ble_eq_true rfl) q515 (fun _ h => h) rfl rfl rfl hfs hln dJ5_hashCode_47 (fun H locs hI => ?_)
          obtain ⟨y16, ey16⟩ : ∃ w, w = hput y11 a0 (ob 20 (fs17.set 3 (.int (nI 1)))) := ⟨_, rfl⟩
          rw [← ey16] at hI
          replace hw := hw y16 ey16
          refine lv_goto (tgt := 58) E.1 E.2.1 dJ5_hashCode_50 (by decide) ?_
          refine lv_iload_n E.1 E.2.1 dJ5_hashCode_58 rfl (lv_at hl 0 rfl) ?_
          exact hv_ireti E hr hlocks hI (Nat.le_refl 0) hw dJ5_hashCode_59
/-- java/lang/StringLatin1.equals([B[B)Z -/
def wp_J10_equals (G : GP) (post : Bool → HS → Prop) (y0 : HS) (p0 : Option Nat) (p1 : Option Nat) : Prop := ∃ a1, p0 = some a1 ∧ ∃ (n2 : Nat) (g3 : Nat → Int32), rd G y0 a1 (ai 3 n2 g3) ∧ ∃ a4, p1 = some a4 ∧ ∃ (n5 : Nat) (g6 : Nat → Int32), rd G y0 a4 (ai 3 n5 g6) ∧ (¬ (nI n2) = (nI n5) → post false y0) ∧ ((nI n2) = (nI n5) → ∃ I8 : Nat → HS → Int32 → Prop, (∃ n14, I8 n14 y0 (nI 0)) ∧ ∀ (n9 : Nat) (y10 : HS) (x13 : Int32), I8 n9 y10 x13 → ∃ (n15 : Nat) (g16 : Nat → Int32), rd G y10 a1 (ai 3 n15 g16) ∧ ((nI n15) ≤ x13 → post true y10) ∧ (¬ (nI n15) ≤ x13 → ∃ (n18 : Nat) (g19 : Nat → Int32), rd G y10 a1 (ai 3 n18 g19) ∧ vp_in x13 n18 ∧ ∃ (n20 : Nat) (g21 : Nat → Int32), rd G y10 a4 (ai 3 n20 g21) ∧ vp_in x13 n20 ∧ ((g19 x13.toNatClampNeg) = (g21 x13.toNatClampNeg) → ∃ n23, n23 < n9 ∧ I8 n23 y10 (x13 + nI 1)) ∧ (¬ (g19 x13.toNatClampNeg) = (g21 x13.toNatClampNeg) → post false y10)))
theorem hs_J10_equals : yJ10_equals.cls ≠ "java/lang/invoke/MethodHandle" ∧ yJ10_equals.cls ≠ "java/lang/invoke/VarHandle" ∧ (parseMethodDescriptor yJ10_equals.desc).map (fun d => d.parameters.length) = some 2 := by decide +kernel
set_option maxHeartbeats 4000000 in
theorem met_J10_equals (l : Launch) (G : GP) (d : Nat) {post : Bool → HS → Prop} {y0 : HS} {p0 : Option Nat} {p1 : Option Nat} (hw : wp_J10_equals G post y0 p0 p1) : vx_Met l yJ10_equals (ws_ yJ10_equals cJ10_equals 3 (some .boolean)) (rmB (d + 0) 0) (hPc G y0 [va_rf p0, va_rf p1]) (hQz G y0 post) (hX G y0 (fun _ _ _ => False)) 0 (20 * 0) (HA y0) := by
  unfold wp_J10_equals at hw
  refine hv_met (own := RJ10) (by decide) rfl (by simp [lg_sl, va_rf_cat, int_cat, long_cat]) ?_
  intro p e s m args below meth c ls E hr hlocks hnm hE hK hI hl
  replace hl : lv_has ls 3 [(0, va_rf p0), (1, va_rf p1)] := by simpa [lv_args, va_rf_cat, int_cat, long_cat] using hl
  refine hv_aload_n (r := p0) E.1 E.2.1 dJ10_equals_0 rfl (lv_at hl 0 rfl) ?_
  obtain ⟨a1, ea1, hw⟩ := hw
  revert hl hw; subst ea1; intro hl hw
  obtain ⟨n2, g3, hra, hw⟩ := hw
  refine hv_alen (t := 3) E hK hI hra rfl dJ10_equals_1 ?_
  refine hv_aload_n (r := p1) E.1 E.2.1 dJ10_equals_2 rfl (lv_at hl 1 rfl) ?_
  obtain ⟨a4, ea4, hw⟩ := hw
  revert hl hw; subst ea4; intro hl hw
  obtain ⟨n5, g6, hra, hw⟩ := hw
  refine hv_alen (t := 3) E hK hI hra rfl dJ10_equals_3 ?_
  refine lv_icmp_ne (tgt := 34) E.1 E.2.1 dJ10_equals_4 (by decide) (fun c7 => ?_) (fun c7 => ?_)
  · replace hw := hw.1 (c7)
    refine lv_iconst (v := nI 0) E.1 E.2.1 dJ10_equals_34 rfl ?_
    exact hv_iretz (b := false) E hr hlocks hI (Nat.le_refl 0) rfl hw dJ10_equals_35
  · replace hw := hw.2 (c7)
    refine lv_iconst (v := nI 0) E.1 E.2.1 dJ10_equals_7 rfl ?_
    refine lv_istore_n (lv' := [(2, .int (nI 0)), (0, va_rf (some a1)), (1, va_rf (some a4))]) E.1 E.2.1 dJ10_equals_8 rfl hl (Nat.le_of_ble_eq_true rfl) (by first | rfl | decide | (simp [va_rf_cat, int_cat, long_cat]; done) | (simp [va_rf_cat, int_cat, long_cat]; decide)) (fun ls hl => ?_)
    obtain ⟨I8, ⟨n14, hi25⟩, hb24⟩ := hw
    have L12 : ∀ (n9 : Nat) (y10 : HS) (x13 : Int32), I8 n9 y10 x13 → ∀ (H : Heap) (locs : List Loc) (ls : Array Slot), HI G y0 y10 s H locs → lv_has ls 3 [(0, va_rf (some a1)), (1, va_rf (some a4)), (2, .int (x13))] → W p l e (rmB (d + 0) 0) s m args below meth c H locs 0 (20 * 0) (vx_MQ below (hQz G y0 post) (hX G y0 (fun _ _ _ => False)) args s 0 (20 * 0) (HA y0)) (F0 m 9 ls []) := by
      intro n9
      induction n9 using Nat.strongRecOn with
      | _ n9 ih11 =>
        intro y10 x13 hw H locs ls hI hl
        replace hw := hb24 n9 y10 x13 hw
        refine lv_iload_n E.1 E.2.1 dJ10_equals_9 rfl (lv_at hl 2 rfl) ?_
        refine hv_aload_n (r := some a1) E.1 E.2.1 dJ10_equals_10 rfl (lv_at hl 0 rfl) ?_
        obtain ⟨n15, g16, hra, hw⟩ := hw
        refine hv_alen (t := 3) E hK hI hra rfl dJ10_equals_11 ?_
        refine lv_icmp_ge (tgt := 32) E.1 E.2.1 dJ10_equals_12 (by decide) (fun c17 => ?_) (fun c17 => ?_)
        · replace hw := hw.1 (c17)
          refine lv_iconst (v := nI 1) E.1 E.2.1 dJ10_equals_32 rfl ?_
          exact hv_iretz (b := true) E hr hlocks hI (Nat.le_refl 0) rfl hw dJ10_equals_33
        · replace hw := hw.2 (c17)
          refine hv_aload_n (r := some a1) E.1 E.2.1 dJ10_equals_15 rfl (lv_at hl 0 rfl) ?_
          refine lv_iload_n E.1 E.2.1 dJ10_equals_16 rfl (lv_at hl 2 rfl) ?_
          obtain ⟨n18, g19, hra, hin, hw⟩ := hw
          refine hv_bald E hK hI hra hin dJ10_equals_17 ?_
          refine hv_aload_n (r := some a4) E.1 E.2.1 dJ10_equals_18 rfl (lv_at hl 1 rfl) ?_
          refine lv_iload_n E.1 E.2.1 dJ10_equals_19 rfl (lv_at hl 2 rfl) ?_
          obtain ⟨n20, g21, hra, hin, hw⟩ := hw
          refine hv_bald E hK hI hra hin dJ10_equals_20 ?_
          refine lv_icmp_eq (tgt := 26) E.1 E.2.1 dJ10_equals_21 (by decide) (fun c22 => ?_) (fun c22 => ?_)
          · replace hw := hw.1 (c22)
            refine lv_iinc (k := 2) (v := x13 + nI 1) (lv' := [(2, .int (x13 + nI 1)), (0, va_rf (some a1)), (1, va_rf (some a4))]) E.1 E.2.1 dJ10_equals_26 hl rfl rfl (Nat.le_of_ble_eq_true rfl) (by first | rfl | decide | (simp [va_rf_cat, int_cat, long_cat]; done) | (simp [va_rf_cat, int_cat, long_cat]; decide)) (fun ls hl => ?_)
            refine lv_goto (tgt := 9) E.1 E.2.1 dJ10_equals_29 (by decide) ?_
            obtain ⟨n23, hnn23, hin23⟩ := hw
            exact ih11 n23 hnn23 _ _ hin23 _ _ _ hI (lv_sub hl [1, 2, 0] rfl)
          · replace hw := hw.2 (c22)
            refine lv_iconst (v := nI 0) E.1 E.2.1 dJ10_equals_24 rfl ?_
            exact hv_iretz (b := false) E hr hlocks hI (Nat.le_refl 0) rfl hw dJ10_equals_25
    exact L12 n14 _ _ hi25 _ _ _ hI (lv_sub hl [1, 2, 0] rfl)
/-- java/lang/String.equals(Ljava/lang/Object;)Z -/
def wp_J5_equals (G : GP) (post : Bool → HS → Prop) (y0 : HS) (a0 : Nat) (p1 : Option Nat) : Prop := (¬ (some a0) = p1 → ∃ b2, isIn G y0 p1 20 b2 ∧ (b2 = false → post false y0) ∧ (b2 = true → ∃ J4 : HS → (Option Nat) → Prop, (∀ (y6 : HS) (r7 : Option Nat), J4 y6 r7 → ∃ f8, fRc G y6 a0 20 0 f8 ∧ ∃ a9, r7 = some a9 ∧ ∃ f10, fRc G y6 a9 20 0 f10 ∧ wp_J10_equals G (fun b12 y11 => (b12 = false → post false y11) ∧ (b12 = true → post true y11)) y6 f8 f10) ∧ (isOf G y0 p1 20 ∧ ((nI 1) = 0 → J4 y0 p1) ∧ (¬ (nI 1) = 0 → ∃ f15, fIc G y0 a0 20 1 f15 ∧ ∃ a16, p1 = some a16 ∧ ∃ f17, fIc G y0 a16 20 1 f17 ∧ (¬ f15 = f17 → post false y0) ∧ (f15 = f17 → J4 y0 (some a16)))))) ∧ ((some a0) = p1 → post true y0)
theorem hs_J5_equals : yJ5_equals.cls ≠ "java/lang/invoke/MethodHandle" ∧ yJ5_equals.cls ≠ "java/lang/invoke/VarHandle" ∧ (parseMethodDescriptor yJ5_equals.desc).map (fun d => d.parameters.length) = some 1 := by decide +kernel
theorem hd_J5_equals : yJ5_equals.cls = RJ5 ∧ yJ5_equals.cls ≠ "java/lang/invoke/MethodHandle" ∧ yJ5_equals.cls ≠ "java/lang/invoke/VarHandle" ∧ (parseMethodDescriptor yJ5_equals.desc).map (fun d => d.parameters.length) = some 1 := by decide +kernel
set_option maxHeartbeats 4000000 in
theorem met_J5_equals (l : Launch) (G : GP) (d : Nat) {post : Bool → HS → Prop} {y0 : HS} {a0 : Nat} {p1 : Option Nat} (hw : wp_J5_equals G post y0 a0 p1) : vx_Met l yJ5_equals (ws_ yJ5_equals cJ5_equals 3 (some .boolean)) (rmB (d + 1) 0) (hPc G y0 [va_rf (some a0), va_rf p1]) (hQz G y0 post) (hX G y0 (fun _ _ _ => False)) 0 (20 * 0) (HA y0) := by
  unfold wp_J5_equals at hw
  refine hv_met (own := RJ5) (by decide) rfl (by simp [lg_sl, va_rf_cat, int_cat, long_cat]) ?_
  intro p e s m args below meth c ls E hr hlocks hnm hE hK hI hl
  replace hl : lv_has ls 3 [(0, va_rf (some a0)), (1, va_rf p1)] := by simpa [lv_args, va_rf_cat, int_cat, long_cat] using hl
  refine hv_aload_n (r := some a0) E.1 E.2.1 dJ5_equals_0 rfl (lv_at hl 0 rfl) ?_
  refine hv_aload_n (r := p1) E.1 E.2.1 dJ5_equals_1 rfl (lv_at hl 1 rfl) ?_
  refine lv_acmp_ne (rx := some a0) (ry := p1) (tgt := 7) E.1 E.2.1 dJ5_equals_2 (by decide) (fun c1 => ?_) (fun c1 => ?_)
  · replace hw := hw.1 (c1)
    refine hv_aload_n (r := p1) E.1 E.2.1 dJ5_equals_7 rfl (lv_at hl 1 rfl) ?_
    obtain ⟨b2, hin, hw⟩ := hw
    refine hv_inst (cn := 20) E hK hI (by decide) q740 hin dJ5_equals_8 ?_
    refine lv_if_eq (tgt := 54) E.1 E.2.1 dJ5_equals_11 (by decide) (fun c3 => ?_) (fun c3 => ?_)
    · replace hw := hw.1 (bi_z c3)
      refine lv_iconst (v := nI 0) E.1 E.2.1 dJ5_equals_54 rfl ?_
      exact hv_iretz (b := false) E hr hlocks hI (Nat.le_refl 0) rfl hw dJ5_equals_55
    · replace hw := hw.2 (bi_n c3)
      obtain ⟨J4, hj19, hw⟩ := hw
      have jh5 : ∀ (y6 : HS) (r7 : Option Nat), J4 y6 r7 → ∀ (H : Heap) (locs : List Loc) (ls : Array Slot), HI G y0 y6 s H locs → lv_has ls 3 [(0, va_rf (some a0)), (2, va_rf r7)] → W p l e (rmB (d + 1) 0) s m args below meth c H locs 0 (20 * 0) (vx_MQ below (hQz G y0 post) (hX G y0 (fun _ _ _ => False)) args s 0 (20 * 0) (HA y0)) (F0 m 36 ls []) := by
        intro y6 r7 hw H locs ls hI hl
        replace hw := hj19 y6 r7 hw
        refine hv_aload_n (r := some a0) E.1 E.2.1 dJ5_equals_36 rfl (lv_at hl 0 rfl) ?_
        obtain ⟨f8, ⟨fs, hfs, hfk⟩, hw⟩ := hw
        refine hv_get (v := va_rf f8) E hK hI ciJ5 0 (Nat.le_of_ble_eq_true rfl) q512 (fun _ h => h) hfs hfk dJ5_equals_37 ?_
        refine hv_aload_n (r := r7) E.1 E.2.1 dJ5_equals_40 rfl (lv_at hl 1 rfl) ?_
        obtain ⟨a9, ea9, hw⟩ := hw
        revert hl hw; subst ea9; intro hl hw
        obtain ⟨f10, ⟨fs, hfs, hfk⟩, hw⟩ := hw
        refine hv_get (v := va_rf f10) E hK hI ciJ5 0 (Nat.le_of_ble_eq_true rfl) q512 (fun _ h => h) hfs hfk dJ5_equals_41 ?_
        have hq := hw
        clear hw
        refine hv_callz (u := 0) (B1 := 0) hI (vx_runS (As := [va_rf f8, va_rf f10]) (rest := []) E (met_J10_equals l G (d) hq) (va_cwS 2 E.2.2.2.2 (lw_S q741 q742 q138 q743) rfl rfl rfl hs_J10_equals (rm_ok (by omega) (by decide))) (hv_preS hK hI) rfl rfl hl.1 rfl (lv_room (by first | rfl | decide | (simp [va_rf_cat, int_cat, long_cat]; done) | (simp [va_rf_cat, int_cat, long_cat]; decide))) dJ5_equals_44 (hv_fit (by first | exact (Nat.le_refl 0) | omega))) (fun _ _ _ _ _ h => h.elim) (fun b12 y11 H locs hw hI => ?_)
        refine lv_if_eq (tgt := 54) E.1 E.2.1 dJ5_equals_47 (by decide) (fun c13 => ?_) (fun c13 => ?_)
        · replace hw := hw.1 (bi_z c13)
          refine lv_iconst (v := nI 0) E.1 E.2.1 dJ5_equals_54 rfl ?_
          exact hv_iretz (b := false) E hr hlocks hI (Nat.le_refl 0) rfl hw dJ5_equals_55
        · replace hw := hw.2 (bi_n c13)
          refine lv_iconst (v := nI 1) E.1 E.2.1 dJ5_equals_50 rfl ?_
          refine lv_goto (tgt := 55) E.1 E.2.1 dJ5_equals_51 (by decide) ?_
          exact hv_iretz (b := true) E hr hlocks hI (Nat.le_refl 0) rfl hw dJ5_equals_55
      refine hv_aload_n (r := p1) E.1 E.2.1 dJ5_equals_14 rfl (lv_at hl 1 rfl) ?_
      obtain ⟨hof, hw⟩ := hw
      refine hv_castC (cn := 20) E hK hI (by decide) q740 hof dJ5_equals_15 ?_
      refine hv_astore_n (r := p1) (lv' := [(2, va_rf p1), (0, va_rf (some a0)), (1, va_rf p1)]) E.1 E.2.1 dJ5_equals_18 rfl hl (Nat.le_of_ble_eq_true rfl) (by first | rfl | decide | (simp [va_rf_cat, int_cat, long_cat]; done) | (simp [va_rf_cat, int_cat, long_cat]; decide)) (fun ls hl => ?_)
      refine hv_gets (v := .int (nI 1)) E hK hI 0 rfl q498 (fun _ h => h) dJ5_equals_19 ?_
      refine lv_if_eq (tgt := 36) E.1 E.2.1 dJ5_equals_22 (by decide) (fun c14 => ?_) (fun c14 => ?_)
      · replace hw := hw.1 (c14)
        exact jh5 _ _ hw _ _ _ hI (lv_sub hl [1, 0] rfl)
      · replace hw := hw.2 (c14)
        refine hv_aload_n (r := some a0) E.1 E.2.1 dJ5_equals_25 rfl (lv_at hl 1 rfl) ?_
        obtain ⟨f15, ⟨fs, hfs, hfk⟩, hw⟩ := hw
        refine hv_get (v := .int f15) E hK hI ciJ5 1 (Nat.le_of_ble_eq_true rfl) q513 (fun _ h => h) hfs hfk dJ5_equals_26 ?_
        refine hv_aload_n (r := p1) E.1 E.2.1 dJ5_equals_29 rfl (lv_at hl 0 rfl) ?_
        obtain ⟨a16, ea16, hw⟩ := hw
        revert hl hw; subst ea16; intro hl hw
        obtain ⟨f17, ⟨fs, hfs, hfk⟩, hw⟩ := hw
        refine hv_get (v := .int f17) E hK hI ciJ5 1 (Nat.le_of_ble_eq_true rfl) q513 (fun _ h => h) hfs hfk dJ5_equals_30 ?_
        refine lv_icmp_ne (tgt := 54) E.1 E.2.1 dJ5_equals_33 (by decide) (fun c18 => ?_) (fun c18 => ?_)
        · replace hw := hw.1 (c18)
          refine lv_iconst (v := nI 0) E.1 E.2.1 dJ5_equals_54 rfl ?_
          exact hv_iretz (b := false) E hr hlocks hI (Nat.le_refl 0) rfl hw dJ5_equals_55
        · replace hw := hw.2 (c18)
          exact jh5 _ _ hw _ _ _ hI (lv_sub hl [1, 0] rfl)
  · replace hw := hw.2 (c1)
    refine lv_iconst (v := nI 1) E.1 E.2.1 dJ5_equals_5 rfl ?_
    exact hv_iretz (b := true) E hr hlocks hI (Nat.le_refl 0) rfl hw dJ5_equals_6
/-- java/lang/StringLatin1.inflate([BI[CII)V -/
def wp_J10_inflate_2 (G : GP) (post : HS → Prop) (y0 : HS) (p0 : Option Nat) (i1 : Int32) (p2 : Option Nat) (i3 : Int32) (i4 : Int32) : Prop := ∃ I1 : Nat → HS → Int32 → Int32 → Int32 → Prop, (∃ n9, I1 n9 y0 i1 i3 (nI 0)) ∧ ∀ (n2 : Nat) (y3 : HS) (x6 : Int32) (x7 : Int32) (x8 : Int32), I1 n2 y3 x6 x7 x8 → (i4 ≤ x8 → post y3) ∧ (¬ i4 ≤ x8 → ∃ a11, p0 = some a11 ∧ ∃ (n12 : Nat) (g13 : Nat → Int32), rd G y3 a11 (ai 3 n12 g13) ∧ vp_in x6 n12 ∧ ∃ a17, p2 = some a17 ∧ ∃ (n14 : Nat) (g15 : Nat → Int32), y3.1 a17 = some (ai 4 n14 g15) ∧ vp_in x7 n14 ∧ ∀ y16, y16 = hput y3 a17 (ai 4 n14 (upd g15 x7.toNatClampNeg (vp_nar .char ((((g13 x6.toNatClampNeg) &&& (nI 255)).toUInt32 % 65536).toInt32)))) → ∃ n18, n18 < n2 ∧ I1 n18 y16 (x6 + nI 1) (x7 + nI 1) (x8 + nI 1))
theorem hs_J10_inflate_2 : yJ10_inflate_2.cls ≠ "java/lang/invoke/MethodHandle" ∧ yJ10_inflate_2.cls ≠ "java/lang/invoke/VarHandle" ∧ (parseMethodDescriptor yJ10_inflate_2.desc).map (fun d => d.parameters.length) = some 5 := by decide +kernel
set_option maxHeartbeats 4000000 in
theorem met_J10_inflate_2 (l : Launch) (G : GP) (d : Nat) {post : HS → Prop} {y0 : HS} {p0 : Option Nat} {i1 : Int32} {p2 : Option Nat} {i3 : Int32} {i4 : Int32} (hw : wp_J10_inflate_2 G post y0 p0 i1 p2 i3 i4) : vx_Met l yJ10_inflate_2 (ws_ yJ10_inflate_2 cJ10_inflate_2 6 none) (rmB (d + 0) 0) (hPc G y0 [va_rf p0, .int (i1), va_rf p2, .int (i3), .int (i4)]) (hQv G y0 post) (hX G y0 (fun _ _ _ => False)) 0 (20 * 0) (HA y0) := by
  unfold wp_J10_inflate_2 at hw
  refine hv_met (own := RJ10) (by decide) rfl (by simp [lg_sl, va_rf_cat, int_cat, long_cat]) ?_
  intro p e s m args below meth c ls E hr hlocks hnm hE hK hI hl
  replace hl : lv_has ls 6 [(0, va_rf p0), (1, .int (i1)), (2, va_rf p2), (3, .int (i3)), (4, .int (i4))] := by simpa [lv_args, va_rf_cat, int_cat, long_cat] using hl
  refine lv_iconst (v := nI 0) E.1 E.2.1 dJ10_inflate_2_0 rfl ?_
  refine lv_istore (lv' := [(5, .int (nI 0)), (0, va_rf p0), (1, .int (i1)), (2, va_rf p2), (3, .int (i3)), (4, .int (i4))]) E.1 E.2.1 dJ10_inflate_2_1 hl (Nat.le_of_ble_eq_true rfl) (by first | rfl | decide | (simp [va_rf_cat, int_cat, long_cat]; done) | (simp [va_rf_cat, int_cat, long_cat]; decide)) (fun ls hl => ?_)
  obtain ⟨I1, ⟨n9, hi20⟩, hb19⟩ := hw
  have L5 : ∀ (n2 : Nat) (y3 : HS) (x6 : Int32) (x7 : Int32) (x8 : Int32), I1 n2 y3 x6 x7 x8 → ∀ (H : Heap) (locs : List Loc) (ls : Array Slot), HI G y0 y3 s H locs → lv_has ls 6 [(0, va_rf p0), (1, .int (x6)), (2, va_rf p2), (3, .int (x7)), (4, .int (i4)), (5, .int (x8))] → W p l e (rmB (d + 0) 0) s m args below meth c H locs 0 (20 * 0) (vx_MQ below (hQv G y0 post) (hX G y0 (fun _ _ _ => False)) args s 0 (20 * 0) (HA y0)) (F0 m 3 ls []) := by
    intro n2
    induction n2 using Nat.strongRecOn with
    | _ n2 ih4 =>
      intro y3 x6 x7 x8 hw H locs ls hI hl
      replace hw := hb19 n2 y3 x6 x7 x8 hw
      refine lv_iload E.1 E.2.1 dJ10_inflate_2_3 (lv_at hl 5 rfl) ?_
      refine lv_iload E.1 E.2.1 dJ10_inflate_2_5 (lv_at hl 4 rfl) ?_
      refine lv_icmp_ge (tgt := 33) E.1 E.2.1 dJ10_inflate_2_7 (by decide) (fun c10 => ?_) (fun c10 => ?_)
      · replace hw := hw.1 (c10)
        exact hv_vret E hr hlocks hI (Nat.le_refl 0) hw dJ10_inflate_2_33
      · replace hw := hw.2 (c10)
        refine hv_aload_n (r := p2) E.1 E.2.1 dJ10_inflate_2_10 rfl (lv_at hl 2 rfl) ?_
        refine lv_iload_n E.1 E.2.1 dJ10_inflate_2_11 rfl (lv_at hl 3 rfl) ?_
        refine lv_iinc (k := 3) (v := x7 + nI 1) (lv' := [(3, .int (x7 + nI 1)), (0, va_rf p0), (1, .int (x6)), (2, va_rf p2), (4, .int (i4)), (5, .int (x8))]) E.1 E.2.1 dJ10_inflate_2_12 hl rfl rfl (Nat.le_of_ble_eq_true rfl) (by first | rfl | decide | (simp [va_rf_cat, int_cat, long_cat]; done) | (simp [va_rf_cat, int_cat, long_cat]; decide)) (fun ls hl => ?_)
        refine hv_aload_n (r := p0) E.1 E.2.1 dJ10_inflate_2_15 rfl (lv_at hl 1 rfl) ?_
        refine lv_iload_n E.1 E.2.1 dJ10_inflate_2_16 rfl (lv_at hl 2 rfl) ?_
        refine lv_iinc (k := 2) (v := x6 + nI 1) (lv' := [(1, .int (x6 + nI 1)), (3, .int (x7 + nI 1)), (0, va_rf p0), (2, va_rf p2), (4, .int (i4)), (5, .int (x8))]) E.1 E.2.1 dJ10_inflate_2_17 hl rfl rfl (Nat.le_of_ble_eq_true rfl) (by first | rfl | decide | (simp [va_rf_cat, int_cat, long_cat]; done) | (simp [va_rf_cat, int_cat, long_cat]; decide)) (fun ls hl => ?_)
        obtain ⟨a11, ea11, hw⟩ := hw
        revert hl hw; subst ea11; intro hl hw
        obtain ⟨n12, g13, hra, hin, hw⟩ := hw
        refine hv_bald E hK hI hra hin dJ10_inflate_2_20 ?_
        refine lv_sipush (v := nI 255) E.1 E.2.1 dJ10_inflate_2_21 rfl ?_
        refine lv_iand E.1 E.2.1 dJ10_inflate_2_24 ?_
        refine lv_i2c E.1 E.2.1 dJ10_inflate_2_25 rfl ?_
        obtain ⟨a17, ea17, hw⟩ := hw
        rw [ea17]
        obtain ⟨n14, g15, hra, hin, hw⟩ := hw
        refine hv_cast E hK hI hra hin dJ10_inflate_2_26 (fun H locs hI => ?_)
        obtain ⟨y16, ey16⟩ : ∃ w, w = hput y3 a17 (ai 4 n14 (upd g15 x7.toNatClampNeg (vp_nar .char ((((g13 x6.toNatClampNeg) &&& (nI 255)).toUInt32 % 65536).toInt32)))) := ⟨_, rfl⟩
        rw [← ey16] at hI
        replace hw := hw y16 ey16
        refine lv_iinc (k := 5) (v := x8 + nI 1) (lv' := [(5, .int (x8 + nI 1)), (1, .int (x6 + nI 1)), (3, .int (x7 + nI 1)), (0, va_rf (some a11)), (2, va_rf p2), (4, .int (i4))]) E.1 E.2.1 dJ10_inflate_2_27 hl rfl rfl (Nat.le_of_ble_eq_true rfl) (by first | rfl | decide | (simp [va_rf_cat, int_cat, long_cat]; done) | (simp [va_rf_cat, int_cat, long_cat]; decide)) (fun ls hl => ?_)
        refine lv_goto (tgt := 3) E.1 E.2.1 dJ10_inflate_2_30 (by decide) ?_
        obtain ⟨n18, hnn18, hin18⟩ := hw
        exact ih4 n18 hnn18 _ _ _ _ hin18 _ _ _ hI (lv_sub hl [3, 1, 4, 2, 5, 0] rfl)
  exact L5 n9 _ _ _ _ hi20 _ _ _ hI (lv_sub hl [1, 2, 3, 4, 5, 0] rfl)
/-- java/lang/StringLatin1.toChars([B)[C -/
def wp_J10_toChars (G : GP) (B : Nat) (post : Option Nat → HS → Prop) (y0 : HS) (p0 : Option Nat) : Prop := ∃ a1, p0 = some a1 ∧ ∃ (n2 : Nat) (g3 : Nat → Int32), rd G y0 a1 (ai 3 n2 g3) ∧ ∃ n6, nI n2 = nI n6 ∧ n6 < 2 ^ 20 ∧ 0 + (1 + n6 / 20) ≤ B ∧ ∀ a5, a5 = y0.2 → ∀ y4, y4 = hnew y0 (ai 4 n6 (fun _ => 0)) → ∃ (n7 : Nat) (g8 : Nat → Int32), rd G y4 a1 (ai 3 n7 g8) ∧ wp_J10_inflate_2 G (fun y9 => post (some a5) y9) y4 (some a1) (nI 0) (some a5) (nI 0) (nI n7)
theorem hs_J10_toChars : yJ10_toChars.cls ≠ "java/lang/invoke/MethodHandle" ∧ yJ10_toChars.cls ≠ "java/lang/invoke/VarHandle" ∧ (parseMethodDescriptor yJ10_toChars.desc).map (fun d => d.parameters.length) = some 1 := by decide +kernel
set_option maxHeartbeats 4000000 in
theorem met_J10_toChars (l : Launch) (G : GP) (d : Nat) {B : Nat} {post : Option Nat → HS → Prop} {y0 : HS} {p0 : Option Nat} (hw : wp_J10_toChars G B post y0 p0) : vx_Met l yJ10_toChars (ws_ yJ10_toChars cJ10_toChars 2 (some (.array .char))) (rmB (d + 1) B) (hPc G y0 [va_rf p0]) (hQq G y0 post) (hX G y0 (fun _ _ _ => False)) B (20 * B) (HA y0) := by
  unfold wp_J10_toChars at hw
  refine hv_met (own := RJ10) (by decide) rfl (by simp [lg_sl, va_rf_cat, int_cat, long_cat]) ?_
  intro p e s m args below meth c ls E hr hlocks hnm hE hK hI hl
  replace hl : lv_has ls 2 [(0, va_rf p0)] := by simpa [lv_args, va_rf_cat, int_cat, long_cat] using hl
  have hu : 0 ≤ B := Nat.zero_le _
  refine hv_aload_n (r := p0) E.1 E.2.1 dJ10_toChars_0 rfl (lv_at hl 0 rfl) ?_
  obtain ⟨a1, ea1, hw⟩ := hw
  revert hl hw; subst ea1; intro hl hw
  obtain ⟨n2, g3, hra, hw⟩ := hw
  refine hv_alen (t := 3) E hK hI hra rfl dJ10_toChars_1 ?_
  obtain ⟨n6, eN, hN, hw⟩ := hw
  obtain ⟨hu, hw⟩ := hw
  refine hv_newa (N := n6) (t := 4) (ty := .char) (atype := .char) E hK hI rfl rfl q1099 rfl rfl eN hN (by decide) hu dJ10_toChars_2 (fun H hI => ?_)
  obtain ⟨a5, ea5⟩ : ∃ w, w = y0.2 := ⟨_, rfl⟩
  obtain ⟨y4, ey4⟩ : ∃ w, w = hnew y0 (ai 4 n6 (fun _ => 0)) := ⟨_, rfl⟩
  rw [← ea5]
  rw [← ey4] at hI
  replace hw := hw a5 ea5 y4 ey4
  refine hv_astore_n (r := some a5) (lv' := [(1, va_rf (some a5)), (0, va_rf (some a1))]) E.1 E.2.1 dJ10_toChars_4 rfl hl (Nat.le_of_ble_eq_true rfl) (by first | rfl | decide | (simp [va_rf_cat, int_cat, long_cat]; done) | (simp [va_rf_cat, int_cat, long_cat]; decide)) (fun ls hl => ?_)
  refine hv_aload_n (r := some a1) E.1 E.2.1 dJ10_toChars_5 rfl (lv_at hl 1 rfl) ?_
  refine lv_iconst (v := nI 0) E.1 E.2.1 dJ10_toChars_6 rfl ?_
  refine hv_aload_n (r := some a5) E.1 E.2.1 dJ10_toChars_7 rfl (lv_at hl 0 rfl) ?_
  refine lv_iconst (v := nI 0) E.1 E.2.1 dJ10_toChars_8 rfl ?_
  refine hv_aload_n (r := some a1) E.1 E.2.1 dJ10_toChars_9 rfl (lv_at hl 1 rfl) ?_
  obtain ⟨n7, g8, hra, hw⟩ := hw
  refine hv_alen (t := 3) E hK hI hra rfl dJ10_toChars_10 ?_
  have hq := hw
  clear hw
  refine hv_callv (u := ((0 + (1 + n6 / 20)))) (B1 := 0) hI (vx_runS (As := [va_rf (some a1), .int (nI 0), va_rf (some a5), .int (nI 0), .int (nI n7)]) (rest := []) E (met_J10_inflate_2 l G (d) hq) (va_cwS 5 E.2.2.2.2 (lw_S q1066 q1067 q138 q1068) rfl rfl rfl hs_J10_inflate_2 (rm_ok (by omega) (by decide))) (hv_preS hK hI) rfl rfl hl.1 rfl (lv_room (by first | rfl | decide | (simp [va_rf_cat, int_cat, long_cat]; done) | (simp [va_rf_cat, int_cat, long_cat]; decide))) dJ10_toChars_11 (hv_fit (by first | exact hu | omega))) (fun _ _ _ _ _ h => h.elim) (fun y9 H locs hw hI => ?_)
  refine hv_aload_n (r := some a5) E.1 E.2.1 dJ10_toChars_14 rfl (lv_at hl 0 rfl) ?_
  exact hv_aret (r := some a5) E hr (Or.inr ⟨_, rfl⟩) hlocks hI hu hw dJ10_toChars_15
/-- java/lang/String.toCharArray()[C -/
def wp_J5_toCharArray (G : GP) (B : Nat) (post : Option Nat → HS → Prop) (y0 : HS) (a0 : Nat) : Prop := (∃ fs3, rd G y0 a0 (ob 20 fs3)) ∧ wp_J5_isLatin1 G (fun b2 y1 => (b2 = false → ∃ f5, fRc G y1 a0 20 0 f5 ∧ False) ∧ (b2 = true → ∃ f6, fRc G y1 a0 20 0 f6 ∧ ∃ k9, 0 + k9 ≤ B ∧ wp_J10_toChars G k9 (fun r8 y7 => post r8 y7) y1 f6)) y0 a0
theorem hs_J5_toCharArray : yJ5_toCharArray.cls ≠ "java/lang/invoke/MethodHandle" ∧ yJ5_toCharArray.cls ≠ "java/lang/invoke/VarHandle" ∧ (parseMethodDescriptor yJ5_toCharArray.desc).map (fun d => d.parameters.length) = some 0 := by decide +kernel
theorem hd_J5_toCharArray : yJ5_toCharArray.cls = RJ5 ∧ yJ5_toCharArray.cls ≠ "java/lang/invoke/MethodHandle" ∧ yJ5_toCharArray.cls ≠ "java/lang/invoke/VarHandle" ∧ (parseMethodDescriptor yJ5_toCharArray.desc).map (fun d => d.parameters.length) = some 0 := by decide +kernel
set_option maxHeartbeats 4000000 in
theorem met_J5_toCharArray (l : Launch) (G : GP) (d : Nat) {B : Nat} {post : Option Nat → HS → Prop} {y0 : HS} {a0 : Nat} (hw : wp_J5_toCharArray G B post y0 a0) : vx_Met l yJ5_toCharArray (ws_ yJ5_toCharArray cJ5_toCharArray 1 (some (.array .char))) (rmB (d + 2) B) (hPc G y0 [va_rf (some a0)]) (hQq G y0 post) (hX G y0 (fun _ _ _ => False)) B (20 * B) (HA y0) := by
  unfold wp_J5_toCharArray at hw
  refine hv_met (own := RJ5) (by decide) rfl (Nat.le_of_ble_eq_true rfl) ?_
  intro p e s m args below meth c ls E hr hlocks hnm hE hK hI hl
  replace hl : lv_has ls 1 [(0, va_rf (some a0))] := hl
  have hu : 0 ≤ B := Nat.zero_le _
  refine hv_aload_n (r := some a0) E.1 E.2.1 dJ5_toCharArray_0 rfl (lv_at hl 0 rfl) ?_
  obtain ⟨⟨fs3, hrv⟩, hw⟩ := hw
  have hq := hw
  clear hw
  refine hv_callz (u := 0) (B1 := 0) hI (vx_runV (As := []) (rest := []) E (met_J5_isLatin1 l G (d + 1) hq) (cwV 0 E.2.2.2.2 (lw_V q686 q687 q688 q132 q689) rfl rfl rfl hd_J5_isLatin1 (rm_ok (by omega) (by decide))) (hv_preV hK hI hrv rfl) rfl rfl hl.1 rfl (lv_room (by first | rfl | decide | (simp [va_rf_cat, int_cat, long_cat]; done) | (simp [va_rf_cat, int_cat, long_cat]; decide))) dJ5_toCharArray_1 (hv_fit (by first | exact hu | omega))) (fun _ _ _ _ _ h => h.elim) (fun b2 y1 H locs hw hI => ?_)
  refine lv_if_eq (tgt := 17) E.1 E.2.1 dJ5_toCharArray_4 (by decide) (fun c4 => ?_) (fun c4 => ?_)
  · replace hw := hw.1 (bi_z c4)
    refine hv_aload_n (r := some a0) E.1 E.2.1 dJ5_toCharArray_17 rfl (lv_at hl 0 rfl) ?_
    obtain ⟨f5, ⟨fs, hfs, hfk⟩, hw⟩ := hw
    refine hv_get (v := va_rf f5) E hK hI ciJ5 0 (Nat.le_of_ble_eq_true rfl) q512 (fun _ h => h) hfs hfk dJ5_toCharArray_18 ?_
    exact hw.elim
  · replace hw := hw.2 (bi_n c4)
    refine hv_aload_n (r := some a0) E.1 E.2.1 dJ5_toCharArray_7 rfl (lv_at hl 0 rfl) ?_
    obtain ⟨f6, ⟨fs, hfs, hfk⟩, hw⟩ := hw
    refine hv_get (v := va_rf f6) E hK hI ciJ5 0 (Nat.le_of_ble_eq_true rfl) q512 (fun _ h => h) hfs hfk dJ5_toCharArray_8 ?_
    obtain ⟨k9, hB, hw⟩ := hw
    have hq := hw
    clear hw
    refine hv_callq (u := 0) (B1 := k9) hI (vx_runS (As := [va_rf f6]) (rest := []) E (met_J10_toChars l G (d) hq) (va_cwS 1 E.2.2.2.2 (lw_S q1063 q1064 q138 q1065) rfl rfl rfl hs_J10_toChars (rm_ok (by omega) (by decide))) (hv_preS hK hI) rfl rfl hl.1 rfl (lv_room (by first | rfl | decide | (simp [va_rf_cat, int_cat, long_cat]; done) | (simp [va_rf_cat, int_cat, long_cat]; decide))) dJ5_toCharArray_11 (hv_fit (by first | exact hB | omega))) (fun _ _ _ _ _ h => h.elim) (fun r8 y7 H locs hw hI => ?_)
    have hu := hB
    refine lv_goto (tgt := 24) E.1 E.2.1 dJ5_toCharArray_14 (by decide) ?_
    exact hv_aret (r := r8) E hr (Or.inr ⟨_, rfl⟩) hlocks hI hu hw dJ5_toCharArray_24
/-- java/lang/String.coder()B -/
def wp_J5_coder (G : GP) (post : Int32 → HS → Prop) (y0 : HS) (a0 : Nat) : Prop := ((nI 1) = 0 → narrow .byte (.int (nI 1)) = .int (nI 1) ∧ post (nI 1) y0) ∧ (¬ (nI 1) = 0 → ∃ f2, fIc G y0 a0 20 1 f2 ∧ narrow .byte (.int f2) = .int f2 ∧ post f2 y0)
theorem hs_J5_coder : yJ5_coder.cls ≠ "java/lang/invoke/MethodHandle" ∧ yJ5_coder.cls ≠ "java/lang/invoke/VarHandle" ∧ (parseMethodDescriptor yJ5_coder.desc).map (fun d => d.parameters.length) = some 0 := by decide +kernel
theorem hd_J5_coder : yJ5_coder.cls = RJ5 ∧ yJ5_coder.cls ≠ "java/lang/invoke/MethodHandle" ∧ yJ5_coder.cls ≠ "java/lang/invoke/VarHandle" ∧ (parseMethodDescriptor yJ5_coder.desc).map (fun d => d.parameters.length) = some 0 := by decide +kernel
set_option maxHeartbeats 4000000 in
theorem met_J5_coder (l : Launch) (G : GP) (d : Nat) {post : Int32 → HS → Prop} {y0 : HS} {a0 : Nat} (hw : wp_J5_coder G post y0 a0) : vx_Met l yJ5_coder (ws_ yJ5_coder cJ5_coder 1 (some .byte)) (rmB (d + 0) 0) (hPc G y0 [va_rf (some a0)]) (hQi G y0 post) (hX G y0 (fun _ _ _ => False)) 0 (20 * 0) (HA y0) := by
  unfold wp_J5_coder at hw
  refine hv_met (own := RJ5) (by decide) rfl (Nat.le_of_ble_eq_true rfl) ?_
  intro p e s m args below meth c ls E hr hlocks hnm hE hK hI hl
  replace hl : lv_has ls 1 [(0, va_rf (some a0))] := hl
  refine hv_gets (v := .int (nI 1)) E hK hI 0 rfl q498 (fun _ h => h) dJ5_coder_0 ?_
  refine lv_if_eq (tgt := 13) E.1 E.2.1 dJ5_coder_3 (by decide) (fun c1 => ?_) (fun c1 => ?_)
  · replace hw := hw.1 (c1)
    refine lv_iconst (v := nI 1) E.1 E.2.1 dJ5_coder_13 rfl ?_
    obtain ⟨hnr, hw⟩ := hw
    exact hv_iretn E hr hlocks hI (Nat.le_refl 0) hnr hw dJ5_coder_14
  · replace hw := hw.2 (c1)
    refine hv_aload_n (r := some a0) E.1 E.2.1 dJ5_coder_6 rfl (lv_at hl 0 rfl) ?_
    obtain ⟨f2, ⟨fs, hfs, hfk⟩, hw⟩ := hw
    refine hv_get (v := .int f2) E hK hI ciJ5 1 (Nat.le_of_ble_eq_true rfl) q513 (fun _ h => h) hfs hfk dJ5_coder_7 ?_
    refine lv_goto (tgt := 14) E.1 E.2.1 dJ5_coder_10 (by decide) ?_
    obtain ⟨hnr, hw⟩ := hw
    exact hv_iretn E hr hlocks hI (Nat.le_refl 0) hnr hw dJ5_coder_14
/-- java/lang/String.length()I -/
def wp_J5_length (G : GP) (post : Int32 → HS → Prop) (y0 : HS) (a0 : Nat) : Prop := ∃ f1, fRc G y0 a0 20 0 f1 ∧ ∃ a2, f1 = some a2 ∧ ∃ (n3 : Nat) (g4 : Nat → Int32), rd G y0 a2 (ai 3 n3 g4) ∧ (∃ fs7, rd G y0 a0 (ob 20 fs7)) ∧ wp_J5_coder G (fun x6 y5 => post ((nI n3) >>> (x6 &&& 31)) y5) y0 a0
theorem hs_J5_length : yJ5_length.cls ≠ "java/lang/invoke/MethodHandle" ∧ yJ5_length.cls ≠ "java/lang/invoke/VarHandle" ∧ (parseMethodDescriptor yJ5_length.desc).map (fun d => d.parameters.length) = some 0 := by decide +kernel
theorem hd_J5_length : yJ5_length.cls = RJ5 ∧ yJ5_length.cls ≠ "java/lang/invoke/MethodHandle" ∧ yJ5_length.cls ≠ "java/lang/invoke/VarHandle" ∧ (parseMethodDescriptor yJ5_length.desc).map (fun d => d.parameters.length) = some 0 := by decide +kernel
set_option maxHeartbeats 4000000 in
theorem met_J5_length (l : Launch) (G : GP) (d : Nat) {post : Int32 → HS → Prop} {y0 : HS} {a0 : Nat} (hw : wp_J5_length G post y0 a0) : vx_Met l yJ5_length (ws_ yJ5_length cJ5_length 1 (some .int)) (rmB (d + 1) 0) (hPc G y0 [va_rf (some a0)]) (hQi G y0 post) (hX G y0 (fun _ _ _ => False)) 0 (20 * 0) (HA y0) := by
  unfold wp_J5_length at hw
  refine hv_met (own := RJ5) (by decide) rfl (Nat.le_of_ble_eq_true rfl) ?_
  intro p e s m args below meth c ls E hr hlocks hnm hE hK hI hl
  replace hl : lv_has ls 1 [(0, va_rf (some a0))] := hl
  refine hv_aload_n (r := some a0) E.1 E.2.1 dJ5_length_0 rfl (lv_at hl 0 rfl) ?_
  obtain ⟨f1, ⟨fs, hfs, hfk⟩, hw⟩ := hw
  refine hv_get (v := va_rf f1) E hK hI ciJ5 0 (Nat.le_of_ble_eq_true rfl) q512 (fun _ h => h) hfs hfk dJ5_length_1 ?_
  obtain ⟨a2, ea2, hw⟩ := hw
  revert hl hw; subst ea2; intro hl hw
  obtain ⟨n3, g4, hra, hw⟩ := hw
  refine hv_alen (t := 3) E hK hI hra rfl dJ5_length_4 ?_
  refine hv_aload_n (r := some a0) E.1 E.2.1 dJ5_length_5 rfl (lv_at hl 0 rfl) ?_
  obtain ⟨⟨fs7, hrv⟩, hw⟩ := hw
  have hq := hw
  clear hw
  refine hv_calli (u := 0) (B1 := 0) hI (vx_runV (As := []) (rest := [.int (nI n3)]) E (met_J5_coder l G (d) hq) (cwV 0 E.2.2.2.2 (lw_V q2090 q2091 q2092 q132 q2093) rfl rfl rfl hd_J5_coder (rm_ok (by omega) (by decide))) (hv_preV hK hI hrv rfl) rfl rfl hl.1 rfl (lv_room (by first | rfl | decide | (simp [va_rf_cat, int_cat, long_cat]; done) | (simp [va_rf_cat, int_cat, long_cat]; decide))) dJ5_length_6 (hv_fit (by first | exact (Nat.le_refl 0) | omega))) (fun _ _ _ _ _ h => h.elim) (fun x6 y5 H locs hw hI => ?_)
  refine lv_ishr E.1 E.2.1 dJ5_length_9 ?_
  exact hv_ireti E hr hlocks hI (Nat.le_refl 0) hw dJ5_length_10
/-- java/lang/StringLatin1.charAt([BI)C -/
def wp_J10_charAt (G : GP) (post : Int32 → HS → Prop) (y0 : HS) (p0 : Option Nat) (i1 : Int32) : Prop := ∃ a1, p0 = some a1 ∧ ∃ (n2 : Nat) (g3 : Nat → Int32), rd G y0 a1 (ai 3 n2 g3) ∧ wp_J5_checkIndex G (fun y4 => ∃ (n5 : Nat) (g6 : Nat → Int32), rd G y4 a1 (ai 3 n5 g6) ∧ vp_in i1 n5 ∧ narrow .char (.int ((((g6 i1.toNatClampNeg) &&& (nI 255)).toUInt32 % 65536).toInt32)) = .int ((((g6 i1.toNatClampNeg) &&& (nI 255)).toUInt32 % 65536).toInt32) ∧ post ((((g6 i1.toNatClampNeg) &&& (nI 255)).toUInt32 % 65536).toInt32) y4) y0 i1 (nI n2)
theorem hs_J10_charAt : yJ10_charAt.cls ≠ "java/lang/invoke/MethodHandle" ∧ yJ10_charAt.cls ≠ "java/lang/invoke/VarHandle" ∧ (parseMethodDescriptor yJ10_charAt.desc).map (fun d => d.parameters.length) = some 2 := by decide +kernel
set_option maxHeartbeats 4000000 in
theorem met_J10_charAt (l : Launch) (G : GP) (d : Nat) {post : Int32 → HS → Prop} {y0 : HS} {p0 : Option Nat} {i1 : Int32} (hw : wp_J10_charAt G post y0 p0 i1) : vx_Met l yJ10_charAt (ws_ yJ10_charAt cJ10_charAt 2 (some .char)) (rmB (d + 2) 0) (hPc G y0 [va_rf p0, .int (i1)]) (hQi G y0 post) (hX G y0 (fun _ _ _ => False)) 0 (20 * 0) (HA y0) := by
  unfold wp_J10_charAt at hw
  refine hv_met (own := RJ10) (by decide) rfl (by simp [lg_sl, va_rf_cat, int_cat, long_cat]) ?_
  intro p e s m args below meth c ls E hr hlocks hnm hE hK hI hl
  replace hl : lv_has ls 2 [(0, va_rf p0), (1, .int (i1))] := by simpa [lv_args, va_rf_cat, int_cat, long_cat] using hl
  refine lv_iload_n E.1 E.2.1 dJ10_charAt_0 rfl (lv_at hl 1 rfl) ?_
  refine hv_aload_n (r := p0) E.1 E.2.1 dJ10_charAt_1 rfl (lv_at hl 0 rfl) ?_
  obtain ⟨a1, ea1, hw⟩ := hw
  revert hl hw; subst ea1; intro hl hw
  obtain ⟨n2, g3, hra, hw⟩ := hw
  refine hv_alen (t := 3) E hK hI hra rfl dJ10_charAt_2 ?_
  have hq := hw
  clear hw
  refine hv_callv (u := 0) (B1 := 0) hI (vx_runS (As := [.int (i1), .int (nI n2)]) (rest := []) E (met_J5_checkIndex l G (d) hq) (va_cwS 2 E.2.2.2.2 (lw_S q2101 q464 q132 q465) rfl rfl rfl hs_J5_checkIndex (rm_ok (by omega) (by decide))) (hv_preS hK hI) rfl rfl hl.1 rfl (lv_room (by first | rfl | decide | (simp [va_rf_cat, int_cat, long_cat]; done) | (simp [va_rf_cat, int_cat, long_cat]; decide))) dJ10_charAt_3 (hv_fit (by first | exact (Nat.le_refl 0) | omega))) (fun _ _ _ _ _ h => h.elim) (fun y4 H locs hw hI => ?_)
  refine hv_aload_n (r := some a1) E.1 E.2.1 dJ10_charAt_6 rfl (lv_at hl 0 rfl) ?_
  refine lv_iload_n E.1 E.2.1 dJ10_charAt_7 rfl (lv_at hl 1 rfl) ?_
  obtain ⟨n5, g6, hra, hin, hw⟩ := hw
  refine hv_bald E hK hI hra hin dJ10_charAt_8 ?_
  refine lv_sipush (v := nI 255) E.1 E.2.1 dJ10_charAt_9 rfl ?_
  refine lv_iand E.1 E.2.1 dJ10_charAt_12 ?_
  refine lv_i2c E.1 E.2.1 dJ10_charAt_13 rfl ?_
  obtain ⟨hnr, hw⟩ := hw
  exact hv_iretn E hr hlocks hI (Nat.le_refl 0) hnr hw dJ10_charAt_14
/-- java/lang/String.charAt(I)C -/
def wp_J5_charAt (G : GP) (post : Int32 → HS → Prop) (y0 : HS) (a0 : Nat) (i1 : Int32) : Prop := (∃ fs3, rd G y0 a0 (ob 20 fs3)) ∧ wp_J5_isLatin1 G (fun b2 y1 => (b2 = false → ∃ f5, fRc G y1 a0 20 0 f5 ∧ False) ∧ (b2 = true → ∃ f6, fRc G y1 a0 20 0 f6 ∧ wp_J10_charAt G (fun x8 y7 => narrow .char (.int x8) = .int x8 ∧ post x8 y7) y1 f6 i1)) y0 a0
theorem hs_J5_charAt : yJ5_charAt.cls ≠ "java/lang/invoke/MethodHandle" ∧ yJ5_charAt.cls ≠ "java/lang/invoke/VarHandle" ∧ (parseMethodDescriptor yJ5_charAt.desc).map (fun d => d.parameters.length) = some 1 := by decide +kernel
theorem hd_J5_charAt : yJ5_charAt.cls = RJ5 ∧ yJ5_charAt.cls ≠ "java/lang/invoke/MethodHandle" ∧ yJ5_charAt.cls ≠ "java/lang/invoke/VarHandle" ∧ (parseMethodDescriptor yJ5_charAt.desc).map (fun d => d.parameters.length) = some 1 := by decide +kernel
set_option maxHeartbeats 4000000 in
theorem met_J5_charAt (l : Launch) (G : GP) (d : Nat) {post : Int32 → HS → Prop} {y0 : HS} {a0 : Nat} {i1 : Int32} (hw : wp_J5_charAt G post y0 a0 i1) : vx_Met l yJ5_charAt (ws_ yJ5_charAt cJ5_charAt 2 (some .char)) (rmB (d + 3) 0) (hPc G y0 [va_rf (some a0), .int (i1)]) (hQi G y0 post) (hX G y0 (fun _ _ _ => False)) 0 (20 * 0) (HA y0) := by
  unfold wp_J5_charAt at hw
  refine hv_met (own := RJ5) (by decide) rfl (Nat.le_of_ble_eq_true rfl) ?_
  intro p e s m args below meth c ls E hr hlocks hnm hE hK hI hl
  replace hl : lv_has ls 2 [(0, va_rf (some a0)), (1, .int (i1))] := hl
  refine hv_aload_n (r := some a0) E.1 E.2.1 dJ5_charAt_0 rfl (lv_at hl 0 rfl) ?_
  obtain ⟨⟨fs3, hrv⟩, hw⟩ := hw
  have hq := hw
  clear hw
  refine hv_callz (u := 0) (B1 := 0) hI (vx_runV (As := []) (rest := []) E (met_J5_isLatin1 l G (d + 2) hq) (cwV 0 E.2.2.2.2 (lw_V q686 q687 q688 q132 q689) rfl rfl rfl hd_J5_isLatin1 (rm_ok (by omega) (by decide))) (hv_preV hK hI hrv rfl) rfl rfl hl.1 rfl (lv_room (by first | rfl | decide | (simp [va_rf_cat, int_cat, long_cat]; done) | (simp [va_rf_cat, int_cat, long_cat]; decide))) dJ5_charAt_1 (hv_fit (by first | exact (Nat.le_refl 0) | omega))) (fun _ _ _ _ _ h => h.elim) (fun b2 y1 H locs hw hI => ?_)
  refine lv_if_eq (tgt := 16) E.1 E.2.1 dJ5_charAt_4 (by decide) (fun c4 => ?_) (fun c4 => ?_)
  · replace hw := hw.1 (bi_z c4)
    refine hv_aload_n (r := some a0) E.1 E.2.1 dJ5_charAt_16 rfl (lv_at hl 0 rfl) ?_
    obtain ⟨f5, ⟨fs, hfs, hfk⟩, hw⟩ := hw
    refine hv_get (v := va_rf f5) E hK hI ciJ5 0 (Nat.le_of_ble_eq_true rfl) q512 (fun _ h => h) hfs hfk dJ5_charAt_17 ?_
    refine lv_iload_n E.1 E.2.1 dJ5_charAt_20 rfl (lv_at hl 1 rfl) ?_
    exact hw.elim
  · replace hw := hw.2 (bi_n c4)
    refine hv_aload_n (r := some a0) E.1 E.2.1 dJ5_charAt_7 rfl (lv_at hl 0 rfl) ?_
    obtain ⟨f6, ⟨fs, hfs, hfk⟩, hw⟩ := hw
    refine hv_get (v := va_rf f6) E hK hI ciJ5 0 (Nat.le_of_ble_eq_true rfl) q512 (fun _ h => h) hfs hfk dJ5_charAt_8 ?_
    refine lv_iload_n E.1 E.2.1 dJ5_charAt_11 rfl (lv_at hl 1 rfl) ?_
    have hq := hw
    clear hw
    refine hv_calli (u := 0) (B1 := 0) hI (vx_runS (As := [va_rf f6, .int (i1)]) (rest := []) E (met_J10_charAt l G (d) hq) (va_cwS 2 E.2.2.2.2 (lw_S q2098 q2099 q138 q2100) rfl rfl rfl hs_J10_charAt (rm_ok (by omega) (by decide))) (hv_preS hK hI) rfl rfl hl.1 rfl (lv_room (by first | rfl | decide | (simp [va_rf_cat, int_cat, long_cat]; done) | (simp [va_rf_cat, int_cat, long_cat]; decide))) dJ5_charAt_12 (hv_fit (by first | exact (Nat.le_refl 0) | omega))) (fun _ _ _ _ _ h => h.elim) (fun x8 y7 H locs hw hI => ?_)
    obtain ⟨hnr, hw⟩ := hw
    exact hv_iretn E hr hlocks hI (Nat.le_refl 0) hnr hw dJ5_charAt_15
/-- java/lang/Number.<init>()V -/
def wp_J12_init_r21 (G : GP) (post : HS → Prop) (y0 : HS) (a0 : Nat) : Prop := post y0
theorem hs_J12_init_r21 : yJ12_init.cls ≠ "java/lang/invoke/MethodHandle" ∧ yJ12_init.cls ≠ "java/lang/invoke/VarHandle" ∧ (parseMethodDescriptor yJ12_init.desc).map (fun d => d.parameters.length) = some 0 := by decide +kernel
set_option maxHeartbeats 4000000 in
theorem met_J12_init_r21 (l : Launch) (G : GP) (d : Nat) {post : HS → Prop} {y0 : HS} {a0 : Nat} (hw : wp_J12_init_r21 G post y0 a0) : vx_Met l yJ12_init (ws_ yJ12_init cJ12_init 1 none) (rmB (d + 1) 0) (hPc G y0 [va_rf (some a0)]) (hQv G y0 post) (hX G y0 (fun _ _ _ => False)) 0 (20 * 0) (HA y0) := by
  unfold wp_J12_init_r21 at hw
  refine hv_met (own := RJ12) (by decide) rfl (Nat.le_of_ble_eq_true rfl) ?_
  intro p e s m args below meth c ls E hr hlocks hnm hE hK hI hl
  replace hl : lv_has ls 1 [(0, va_rf (some a0))] := hl
  refine hv_aload_n (r := some a0) E.1 E.2.1 dJ12_init_0 rfl (lv_at hl 0 rfl) ?_
  refine hv_objInit (r := some a0) E q554 hl.1 rfl (by first | rfl | decide | (simp [va_rf_cat, int_cat, long_cat]; done) | (simp [va_rf_cat, int_cat, long_cat]; decide)) dJ12_init_1 ?_
  exact hv_vret E hr hlocks hI (Nat.le_refl 0) hw dJ12_init_4
/-- java/lang/Integer.<init>(I)V -/
def wp_J13_init (G : GP) (post : HS → Prop) (y0 : HS) (a0 : Nat) (i1 : Int32) : Prop := wp_J12_init_r21 G (fun y1 => ∃ fs3, y1.1 a0 = some (ob 21 fs3) ∧ 0 < fs3.length ∧ ∀ y2, y2 = hput y1 a0 (ob 21 (fs3.set 0 (.int (i1)))) → post y2) y0 a0
theorem hs_J13_init : yJ13_init.cls ≠ "java/lang/invoke/MethodHandle" ∧ yJ13_init.cls ≠ "java/lang/invoke/VarHandle" ∧ (parseMethodDescriptor yJ13_init.desc).map (fun d => d.parameters.length) = some 1 := by decide +kernel
set_option maxHeartbeats 4000000 in
theorem met_J13_init (l : Launch) (G : GP) (d : Nat) {post : HS → Prop} {y0 : HS} {a0 : Nat} {i1 : Int32} (hw : wp_J13_init G post y0 a0 i1) : vx_Met l yJ13_init (ws_ yJ13_init cJ13_init 2 none) (rmB (d + 2) 0) (hPc G y0 [va_rf (some a0), .int (i1)]) (hQv G y0 post) (hX G y0 (fun _ _ _ => False)) 0 (20 * 0) (HA y0) := by
  unfold wp_J13_init at hw
  refine hv_met (own := RJ13) (by decide) rfl (Nat.le_of_ble_eq_true rfl) ?_
  intro p e s m args below meth c ls E hr hlocks hnm hE hK hI hl
  replace hl : lv_has ls 2 [(0, va_rf (some a0)), (1, .int (i1))] := hl
  refine hv_aload_n (r := some a0) E.1 E.2.1 dJ13_init_0 rfl (lv_at hl 0 rfl) ?_
  have hq := hw
  clear hw
  refine hv_callv (u := 0) (B1 := 0) hI (vx_runI (b := a0) (As := []) (rest := []) E (met_J12_init_r21 l G (d) hq) (cwI 0 E.2.2.2.2 (lw_meth q553) rfl rfl rfl (E.2.2.2.2 _ q140) (E.2.2.2.2 _ q551) (E.2.2.2.2 _ q552) rfl hs_J12_init_r21 (rm_ok (by omega) (by decide))) (hv_preS hK hI) rfl rfl hl.1 rfl (lv_room (by first | rfl | decide | (simp [va_rf_cat, int_cat, long_cat]; done) | (simp [va_rf_cat, int_cat, long_cat]; decide))) dJ13_init_1 (hv_fit (by first | exact (Nat.le_refl 0) | omega))) (fun _ _ _ _ _ h => h.elim) (fun y1 H locs hw hI => ?_)
  refine hv_aload_n (r := some a0) E.1 E.2.1 dJ13_init_4 rfl (lv_at hl 0 rfl) ?_
  refine lv_iload_n E.1 E.2.1 dJ13_init_5 rfl (lv_at hl 1 rfl) ?_
  obtain ⟨fs3, hfs, hln, hw⟩ := hw
  refine hv_putF (v := .int (i1)) E hK hI ciJ13 0 (Nat.le_of_ble_eq_true rfl) q555 (fun _ h => h) rfl hnm rfl rfl rfl hfs hln dJ13_init_6 (fun H locs hI => ?_)
  obtain ⟨y2, ey2⟩ : ∃ w, w = hput y1 a0 (ob 21 (fs3.set 0 (.int (i1)))) := ⟨_, rfl⟩
  rw [← ey2] at hI
  replace hw := hw y2 ey2
  exact hv_vret E hr hlocks hI (Nat.le_refl 0) hw dJ13_init_9
/-- java/lang/Integer.valueOf(I)Ljava/lang/Integer; -/
def wp_J13_valueOf (G : GP) (B : Nat) (post : Option Nat → HS → Prop) (y0 : HS) (i0 : Int32) : Prop := ∃ J1 : HS → Nat → Prop, (∀ (y3 : HS) (u4 : Nat), J1 y3 u4 → u4 ≤ B ∧ u4 + 1 ≤ B ∧ ∀ a6, a6 = y3.2 → ∀ y5, y5 = hnew y3 (ob 21 [.int 0]) → wp_J13_init G (fun y7 => post (some a6) y7) y5 a6 i0) ∧ ((i0 < ((-128)) → J1 y0 0 ) ∧ (¬ i0 < ((-128)) → ((nI 127) < i0 → J1 y0 0 ) ∧ (¬ (nI 127) < i0 → vp_in (i0 + (nI 128)) 256 ∧ post (some (gI G (i0 + (nI 128)).toNatClampNeg)) y0)))
theorem hs_J13_valueOf : yJ13_valueOf.cls ≠ "java/lang/invoke/MethodHandle" ∧ yJ13_valueOf.cls ≠ "java/lang/invoke/VarHandle" ∧ (parseMethodDescriptor yJ13_valueOf.desc).map (fun d => d.parameters.length) = some 1 := by decide +kernel
set_option maxHeartbeats 4000000 in
theorem met_J13_valueOf (l : Launch) (G : GP) (d : Nat) {B : Nat} {post : Option Nat → HS → Prop} {y0 : HS} {i0 : Int32} (hw : wp_J13_valueOf G B post y0 i0) : vx_Met l yJ13_valueOf (ws_ yJ13_valueOf cJ13_valueOf 1 (some (.object "java/lang/Integer"))) (rmB (d + 3) B) (hPc G y0 [.int (i0)]) (hQq G y0 post) (hX G y0 (fun _ _ _ => False)) B (20 * B) (HA y0) := by
  unfold wp_J13_valueOf at hw
  refine hv_met (own := RJ13) (by decide) rfl (Nat.le_of_ble_eq_true rfl) ?_
  intro p e s m args below meth c ls E hr hlocks hnm hE hK hI hl
  replace hl : lv_has ls 1 [(0, .int (i0))] := hl
  have hu : 0 ≤ B := Nat.zero_le _
  obtain ⟨J1, hj10, hw⟩ := hw
  have jh2 : ∀ (y3 : HS) (u4 : Nat), J1 y3 u4 → ∀ (H : Heap) (locs : List Loc) (ls : Array Slot), HI G y0 y3 s H locs → lv_has ls 1 [(0, .int (i0))] → W p l e (rmB (d + 3) B) s m args below meth c H locs u4 (20 * u4) (vx_MQ below (hQq G y0 post) (hX G y0 (fun _ _ _ => False)) args s B (20 * B) (HA y0)) (F0 m 23 ls []) := by
    intro y3 u4 hw H locs ls hI hl
    replace hw := hj10 y3 u4 hw
    obtain ⟨hu, hw⟩ := hw
    obtain ⟨hu, hw⟩ := hw
    refine hv_new (fs := [.int 0]) E hK hI ciJ13 q546 q547 q141 (df21) (Nat.le_of_ble_eq_true rfl) hu dJ13_valueOf_23 (fun H hI => ?_)
    obtain ⟨a6, ea6⟩ : ∃ w, w = y3.2 := ⟨_, rfl⟩
    obtain ⟨y5, ey5⟩ : ∃ w, w = hnew y3 (ob 21 [.int 0]) := ⟨_, rfl⟩
    rw [← ea6]
    rw [← ey5] at hI
    replace hw := hw a6 ea6 y5 ey5
    refine hv_dup E.1 E.2.1 dJ13_valueOf_26 ?_
    refine lv_iload_n E.1 E.2.1 dJ13_valueOf_27 rfl (lv_at hl 0 rfl) ?_
    have hq := hw
    clear hw
    refine hv_callv (u := ((u4 + 1))) (B1 := 0) hI (vx_runI (b := a6) (As := [.int (i0)]) (rest := [va_rf (some a6)]) E (met_J13_init l G (d) hq) (cwI 1 E.2.2.2.2 (lw_meth q550) rfl rfl rfl (E.2.2.2.2 _ q141) (E.2.2.2.2 _ q548) (E.2.2.2.2 _ q549) rfl hs_J13_init (rm_ok (by omega) (by decide))) (hv_preS hK hI) rfl rfl hl.1 rfl (lv_room (by first | rfl | decide | (simp [va_rf_cat, int_cat, long_cat]; done) | (simp [va_rf_cat, int_cat, long_cat]; decide))) dJ13_valueOf_28 (hv_fit (by first | exact hu | omega))) (fun _ _ _ _ _ h => h.elim) (fun y7 H locs hw hI => ?_)
    exact hv_aret (r := some a6) E hr (Or.inl ⟨_, rfl⟩) hlocks hI hu hw dJ13_valueOf_31
  refine lv_iload_n E.1 E.2.1 dJ13_valueOf_0 rfl (lv_at hl 0 rfl) ?_
  refine lv_bipush (v := (-128)) E.1 E.2.1 dJ13_valueOf_1 rfl ?_
  refine lv_icmp_lt (tgt := 23) E.1 E.2.1 dJ13_valueOf_3 (by decide) (fun c8 => ?_) (fun c8 => ?_)
  · replace hw := hw.1 (c8)
    exact jh2 _ _ hw _ _ _ hI (lv_sub hl [0] rfl)
  · replace hw := hw.2 (c8)
    refine lv_iload_n E.1 E.2.1 dJ13_valueOf_6 rfl (lv_at hl 0 rfl) ?_
    refine hv_gets (v := .int (nI 127)) E hK hI 1 rfl q542 (fun _ h => h) dJ13_valueOf_7 ?_
    refine lv_icmp_gt (tgt := 23) E.1 E.2.1 dJ13_valueOf_10 (by decide) (fun c9 => ?_) (fun c9 => ?_)
    · replace hw := hw.1 (c9)
      exact jh2 _ _ hw _ _ _ hI (lv_sub hl [0] rfl)
    · replace hw := hw.2 (c9)
      refine hv_gets (v := va_rf (some (gE G 1))) E hK hI 3 rfl q544 (fun _ h => h) dJ13_valueOf_13 ?_
      refine lv_iload_n E.1 E.2.1 dJ13_valueOf_16 rfl (lv_at hl 0 rfl) ?_
      refine lv_sipush (v := nI 128) E.1 E.2.1 dJ13_valueOf_17 rfl ?_
      refine lv_iadd E.1 E.2.1 dJ13_valueOf_20 ?_
      obtain ⟨hin, hw⟩ := hw
      refine hv_cash E hK hI hK.2.2.2.2.2.2.2.2.2.2.2.1 hin dJ13_valueOf_21 ?_
      refine W.eq (g2 := F0 m 22 ls [va_rf (some (gI G (i0 + (nI 128)).toNatClampNeg))]) rfl ?_
      exact hv_aret (r := some (gI G (i0 + (nI 128)).toNatClampNeg)) E hr (Or.inl ⟨_, rfl⟩) hlocks hI hu hw dJ13_valueOf_22
/-- java/lang/Character.<init>(C)V -/
def wp_J14_init (G : GP) (post : HS → Prop) (y0 : HS) (a0 : Nat) (i1 : Int32) : Prop := narrow .char (.int (i1)) = .int (i1) ∧ fits .char (.int (i1)) = true ∧ ∃ fs2, y0.1 a0 = some (ob 22 fs2) ∧ 0 < fs2.length ∧ ∀ y1, y1 = hput y0 a0 (ob 22 (fs2.set 0 (.int (i1)))) → post y1
theorem hs_J14_init : yJ14_init.cls ≠ "java/lang/invoke/MethodHandle" ∧ yJ14_init.cls ≠ "java/lang/invoke/VarHandle" ∧ (parseMethodDescriptor yJ14_init.desc).map (fun d => d.parameters.length) = some 1 := by decide +kernel
set_option maxHeartbeats 4000000 in
theorem met_J14_init (l : Launch) (G : GP) (d : Nat) {post : HS → Prop} {y0 : HS} {a0 : Nat} {i1 : Int32} (hw : wp_J14_init G post y0 a0 i1) : vx_Met l yJ14_init (ws_ yJ14_init cJ14_init 2 none) (rmB (d + 1) 0) (hPc G y0 [va_rf (some a0), .int (i1)]) (hQv G y0 post) (hX G y0 (fun _ _ _ => False)) 0 (20 * 0) (HA y0) := by
  unfold wp_J14_init at hw
  refine hv_met (own := RJ14) (by decide) rfl (Nat.le_of_ble_eq_true rfl) ?_
  intro p e s m args below meth c ls E hr hlocks hnm hE hK hI hl
  replace hl : lv_has ls 2 [(0, va_rf (some a0)), (1, .int (i1))] := hl
  refine hv_aload_n (r := some a0) E.1 E.2.1 dJ14_init_0 rfl (lv_at hl 0 rfl) ?_
  refine hv_objInit (r := some a0) E q584 hl.1 rfl (by first | rfl | decide | (simp [va_rf_cat, int_cat, long_cat]; done) | (simp [va_rf_cat, int_cat, long_cat]; decide)) dJ14_init_1 ?_
  refine hv_aload_n (r := some a0) E.1 E.2.1 dJ14_init_4 rfl (lv_at hl 0 rfl) ?_
  refine lv_iload_n E.1 E.2.1 dJ14_init_5 rfl (lv_at hl 1 rfl) ?_
  obtain ⟨hnr, hft, hw⟩ := hw
  obtain ⟨fs2, hfs, hln, hw⟩ := hw
  refine hv_putF (v := .int (i1)) E hK hI ciJ14 0 (Nat.le_of_ble_eq_true rfl) q585 (fun _ h => h) rfl hnm rfl hnr hft hfs hln dJ14_init_6 (fun H locs hI => ?_)
  obtain ⟨y1, ey1⟩ : ∃ w, w = hput y0 a0 (ob 22 (fs2.set 0 (.int (i1)))) := ⟨_, rfl⟩
  rw [← ey1] at hI
  replace hw := hw y1 ey1
  exact hv_vret E hr hlocks hI (Nat.le_refl 0) hw dJ14_init_9
/-- java/lang/Character.valueOf(C)Ljava/lang/Character; -/
def wp_J14_valueOf (G : GP) (B : Nat) (post : Option Nat → HS → Prop) (y0 : HS) (i0 : Int32) : Prop := ((nI 127) < i0 → 0 + 1 ≤ B ∧ ∀ a3, a3 = y0.2 → ∀ y2, y2 = hnew y0 (ob 22 [.int 0]) → wp_J14_init G (fun y4 => post (some a3) y4) y2 a3 i0) ∧ (¬ (nI 127) < i0 → vp_in i0 128 ∧ post (some (gC G i0.toNatClampNeg)) y0)
theorem hs_J14_valueOf : yJ14_valueOf.cls ≠ "java/lang/invoke/MethodHandle" ∧ yJ14_valueOf.cls ≠ "java/lang/invoke/VarHandle" ∧ (parseMethodDescriptor yJ14_valueOf.desc).map (fun d => d.parameters.length) = some 1 := by decide +kernel
set_option maxHeartbeats 4000000 in
theorem met_J14_valueOf (l : Launch) (G : GP) (d : Nat) {B : Nat} {post : Option Nat → HS → Prop} {y0 : HS} {i0 : Int32} (hw : wp_J14_valueOf G B post y0 i0) : vx_Met l yJ14_valueOf (ws_ yJ14_valueOf cJ14_valueOf 1 (some (.object "java/lang/Character"))) (rmB (d + 2) B) (hPc G y0 [.int (i0)]) (hQq G y0 post) (hX G y0 (fun _ _ _ => False)) B (20 * B) (HA y0) := by
  unfold wp_J14_valueOf at hw
  refine hv_met (own := RJ14) (by decide) rfl (Nat.le_of_ble_eq_true rfl) ?_
  intro p e s m args below meth c ls E hr hlocks hnm hE hK hI hl
  replace hl : lv_has ls 1 [(0, .int (i0))] := hl
  have hu : 0 ≤ B := Nat.zero_le _
  refine lv_iload_n E.1 E.2.1 dJ14_valueOf_0 rfl (lv_at hl 0 rfl) ?_
  refine lv_bipush (v := nI 127) E.1 E.2.1 dJ14_valueOf_1 rfl ?_
  refine lv_icmp_gt (tgt := 12) E.1 E.2.1 dJ14_valueOf_3 (by decide) (fun c1 => ?_) (fun c1 => ?_)
  · replace hw := hw.1 (c1)
    obtain ⟨hu, hw⟩ := hw
    refine hv_new (fs := [.int 0]) E hK hI ciJ14 q579 q580 q144 (df22) (Nat.le_of_ble_eq_true rfl) hu dJ14_valueOf_12 (fun H hI => ?_)
    obtain ⟨a3, ea3⟩ : ∃ w, w = y0.2 := ⟨_, rfl⟩
    obtain ⟨y2, ey2⟩ : ∃ w, w = hnew y0 (ob 22 [.int 0]) := ⟨_, rfl⟩
    rw [← ea3]
    rw [← ey2] at hI
    replace hw := hw a3 ea3 y2 ey2
    refine hv_dup E.1 E.2.1 dJ14_valueOf_15 ?_
    refine lv_iload_n E.1 E.2.1 dJ14_valueOf_16 rfl (lv_at hl 0 rfl) ?_
    have hq := hw
    clear hw
    refine hv_callv (u := ((0 + 1))) (B1 := 0) hI (vx_runI (b := a3) (As := [.int (i0)]) (rest := [va_rf (some a3)]) E (met_J14_init l G (d) hq) (cwI 1 E.2.2.2.2 (lw_meth q583) rfl rfl rfl (E.2.2.2.2 _ q144) (E.2.2.2.2 _ q581) (E.2.2.2.2 _ q582) rfl hs_J14_init (rm_ok (by omega) (by decide))) (hv_preS hK hI) rfl rfl hl.1 rfl (lv_room (by first | rfl | decide | (simp [va_rf_cat, int_cat, long_cat]; done) | (simp [va_rf_cat, int_cat, long_cat]; decide))) dJ14_valueOf_17 (hv_fit (by first | exact hu | omega))) (fun _ _ _ _ _ h => h.elim) (fun y4 H locs hw hI => ?_)
    exact hv_aret (r := some a3) E hr (Or.inl ⟨_, rfl⟩) hlocks hI hu hw dJ14_valueOf_20
  · replace hw := hw.2 (c1)
    refine hv_gets (v := va_rf (some (gE G 2))) E hK hI 4 rfl q577 (fun _ h => h) dJ14_valueOf_6 ?_
    refine lv_iload_n E.1 E.2.1 dJ14_valueOf_9 rfl (lv_at hl 0 rfl) ?_
    obtain ⟨hin, hw⟩ := hw
    refine hv_cash E hK hI hK.2.2.2.2.2.2.2.2.2.2.2.2.1 hin dJ14_valueOf_10 ?_
    refine W.eq (g2 := F0 m 11 ls [va_rf (some (gC G i0.toNatClampNeg))]) rfl ?_
    exact hv_aret (r := some (gC G i0.toNatClampNeg)) E hr (Or.inl ⟨_, rfl⟩) hlocks hI hu hw dJ14_valueOf_11
/-- java/lang/Character.charValue()C -/
def wp_J14_charValue (G : GP) (post : Int32 → HS → Prop) (y0 : HS) (a0 : Nat) : Prop := ∃ f1, fIc G y0 a0 22 0 f1 ∧ narrow .char (.int f1) = .int f1 ∧ post f1 y0
theorem hs_J14_charValue : yJ14_charValue.cls ≠ "java/lang/invoke/MethodHandle" ∧ yJ14_charValue.cls ≠ "java/lang/invoke/VarHandle" ∧ (parseMethodDescriptor yJ14_charValue.desc).map (fun d => d.parameters.length) = some 0 := by decide +kernel
theorem hd_J14_charValue : yJ14_charValue.cls = RJ14 ∧ yJ14_charValue.cls ≠ "java/lang/invoke/MethodHandle" ∧ yJ14_charValue.cls ≠ "java/lang/invoke/VarHandle" ∧ (parseMethodDescriptor yJ14_charValue.desc).map (fun d => d.parameters.length) = some 0 := by decide +kernel
set_option maxHeartbeats 4000000 in
theorem met_J14_charValue (l : Launch) (G : GP) (d : Nat) {post : Int32 → HS → Prop} {y0 : HS} {a0 : Nat} (hw : wp_J14_charValue G post y0 a0) : vx_Met l yJ14_charValue (ws_ yJ14_charValue cJ14_charValue 1 (some .char)) (rmB (d + 0) 0) (hPc G y0 [va_rf (some a0)]) (hQi G y0 post) (hX G y0 (fun _ _ _ => False)) 0 (20 * 0) (HA y0) := by
  unfold wp_J14_charValue at hw
  refine hv_met (own := RJ14) (by decide) rfl (Nat.le_of_ble_eq_true rfl) ?_
  intro p e s m args below meth c ls E hr hlocks hnm hE hK hI hl
  replace hl : lv_has ls 1 [(0, va_rf (some a0))] := hl
  refine hv_aload_n (r := some a0) E.1 E.2.1 dJ14_charValue_0 rfl (lv_at hl 0 rfl) ?_
  obtain ⟨f1, ⟨fs, hfs, hfk⟩, hw⟩ := hw
  refine hv_get (v := .int f1) E hK hI ciJ14 0 (Nat.le_of_ble_eq_true rfl) q585 (fun _ h => h) hfs hfk dJ14_charValue_1 ?_
  obtain ⟨hnr, hw⟩ := hw
  exact hv_iretn E hr hlocks hI (Nat.le_refl 0) hnr hw dJ14_charValue_4
/-- java/lang/Throwable.<init>(Ljava/lang/String;Ljava/lang/Throwable;ZZ)V -/
def wp_J15_init_2_r6 (G : GP) (post : HS → Prop) (y0 : HS) (a0 : Nat) (p1 : Option Nat) (p2 : Option Nat) (o3 : Bool) (o4 : Bool) : Prop := ∃ fs2, y0.1 a0 = some (ob 6 fs2) ∧ 0 < fs2.length ∧ ∀ y1, y1 = hput y0 a0 (ob 6 (fs2.set 0 (va_rf (some a0)))) → ∃ fs4, y1.1 a0 = some (ob 6 fs4) ∧ 1 < fs4.length ∧ ∀ y3, y3 = hput y1 a0 (ob 6 (fs4.set 1 (va_rf (gS G 1)))) → ∃ fs6, y3.1 a0 = some (ob 6 fs6) ∧ 2 < fs6.length ∧ ∀ y5, y5 = hput y3 a0 (ob 6 (fs6.set 2 (va_rf (gS G 2)))) → (o4 = false → ∃ fs9, y5.1 a0 = some (ob 6 fs9) ∧ 1 < fs9.length ∧ ∀ y8, y8 = hput y5 a0 (ob 6 (fs9.set 1 (va_rf none))) → ∃ fs11, y8.1 a0 = some (ob 6 fs11) ∧ 3 < fs11.length ∧ ∀ y10, y10 = hput y8 a0 (ob 6 (fs11.set 3 (va_rf p1))) → ∃ fs13, y10.1 a0 = some (ob 6 fs13) ∧ 0 < fs13.length ∧ ∀ y12, y12 = hput y10 a0 (ob 6 (fs13.set 0 (va_rf p2))) → (o3 = true → post y12) ∧ (o3 = false → ∃ fs16, y12.1 a0 = some (ob 6 fs16) ∧ 2 < fs16.length ∧ ∀ y15, y15 = hput y12 a0 (ob 6 (fs16.set 2 (va_rf none))) → post y15)) ∧ (o4 = true → False)
theorem hs_J15_init_2_r6 : yJ15_init_2.cls ≠ "java/lang/invoke/MethodHandle" ∧ yJ15_init_2.cls ≠ "java/lang/invoke/VarHandle" ∧ (parseMethodDescriptor yJ15_init_2.desc).map (fun d => d.parameters.length) = some 4 := by decide +kernel
set_option maxHeartbeats 4000000 in
theorem met_J15_init_2_r6 (l : Launch) (G : GP) (d : Nat) {post : HS → Prop} {y0 : HS} {a0 : Nat} {p1 : Option Nat} {p2 : Option Nat} {o3 : Bool} {o4 : Bool} (hw : wp_J15_init_2_r6 G post y0 a0 p1 p2 o3 o4) : vx_Met l yJ15_init_2 (ws_ yJ15_init_2 cJ15_init_2 5 none) (rmB (d + 1) 0) (hPc G y0 [va_rf (some a0), va_rf p1, va_rf p2, .int (bi o3), .int (bi o4)]) (hQv G y0 post) (hX G y0 (fun _ _ _ => False)) 0 (20 * 0) (HA y0) := by
  unfold wp_J15_init_2_r6 at hw
  refine hv_met (own := RJ15) (by decide) rfl (by simp [lg_sl, va_rf_cat, int_cat, long_cat]) ?_
  intro p e s m args below meth c ls E hr hlocks hnm hE hK hI hl
  replace hl : lv_has ls 5 [(0, va_rf (some a0)), (1, va_rf p1), (2, va_rf p2), (3, .int (bi o3)), (4, .int (bi o4))] := by simpa [lv_args, va_rf_cat, int_cat, long_cat] using hl
  refine hv_aload_n (r := some a0) E.1 E.2.1 dJ15_init_2_0 rfl (lv_at hl 0 rfl) ?_
  refine hv_objInit (r := some a0) E q624 hl.1 rfl (by first | rfl | decide | (simp [va_rf_cat, int_cat, long_cat]; done) | (simp [va_rf_cat, int_cat, long_cat]; decide)) dJ15_init_2_1 ?_
  refine hv_aload_n (r := some a0) E.1 E.2.1 dJ15_init_2_4 rfl (lv_at hl 0 rfl) ?_
  refine hv_aload_n (r := some a0) E.1 E.2.1 dJ15_init_2_5 rfl (lv_at hl 0 rfl) ?_
  obtain ⟨fs2, hfs, hln, hw⟩ := hw
  refine hv_put (v := va_rf (some a0)) E hK hI ciX8 0 (Nat.le_of_ble_eq_true rfl) q669 (fun _ h => h) rfl (rf_nar _ _ rfl) (rf_fit _ _ rfl) hfs hln dJ15_init_2_6 (fun H locs hI => ?_)
  obtain ⟨y1, ey1⟩ : ∃ w, w = hput y0 a0 (ob 6 (fs2.set 0 (va_rf (some a0)))) := ⟨_, rfl⟩
  rw [← ey1] at hI
  replace hw := hw y1 ey1
  refine hv_aload_n (r := some a0) E.1 E.2.1 dJ15_init_2_9 rfl (lv_at hl 0 rfl) ?_
  refine hv_gets (v := va_rf (gS G 1)) E hK hI 6 rfl q625 (fun _ h => h) dJ15_init_2_10 ?_
  obtain ⟨fs4, hfs, hln, hw⟩ := hw
  refine hv_put (v := va_rf (gS G 1)) E hK hI ciX8 1 (Nat.le_of_ble_eq_true rfl) q670 (fun _ h => h) rfl (rf_nar _ _ rfl) (rf_fit _ _ rfl) hfs hln dJ15_init_2_13 (fun H locs hI => ?_)
  obtain ⟨y3, ey3⟩ : ∃ w, w = hput y1 a0 (ob 6 (fs4.set 1 (va_rf (gS G 1)))) := ⟨_, rfl⟩
  rw [← ey3] at hI
  replace hw := hw y3 ey3
  refine hv_aload_n (r := some a0) E.1 E.2.1 dJ15_init_2_16 rfl (lv_at hl 0 rfl) ?_
  refine hv_gets (v := va_rf (gS G 2)) E hK hI 7 rfl q627 (fun _ h => h) dJ15_init_2_17 ?_
  obtain ⟨fs6, hfs, hln, hw⟩ := hw
  refine hv_put (v := va_rf (gS G 2)) E hK hI ciX8 2 (Nat.le_of_ble_eq_true rfl) q671 (fun _ h => h) rfl (rf_nar _ _ rfl) (rf_fit _ _ rfl) hfs hln dJ15_init_2_20 (fun H locs hI => ?_)
  obtain ⟨y5, ey5⟩ : ∃ w, w = hput y3 a0 (ob 6 (fs6.set 2 (va_rf (gS G 2)))) := ⟨_, rfl⟩
  rw [← ey5] at hI
  replace hw := hw y5 ey5
  refine lv_iload E.1 E.2.1 dJ15_init_2_23 (lv_at hl 4 rfl) ?_
  refine lv_if_eq (tgt := 36) E.1 E.2.1 dJ15_init_2_25 (by decide) (fun c7 => ?_) (fun c7 => ?_)
  · replace hw := hw.1 (bi_z c7)
    refine hv_aload_n (r := some a0) E.1 E.2.1 dJ15_init_2_36 rfl (lv_at hl 0 rfl) ?_
    refine lv_null E.1 E.2.1 dJ15_init_2_37 ?_
    obtain ⟨fs9, hfs, hln, hw⟩ := hw
    refine hv_put (v := va_rf none) E hK hI ciX8 1 (Nat.le_of_ble_eq_true rfl) q670 (fun _ h => h) rfl (rf_nar _ _ rfl) (rf_fit _ _ rfl) hfs hln dJ15_init_2_38 (fun H locs hI => ?_)
    obtain ⟨y8, ey8⟩ : ∃ w, w = hput y5 a0 (ob 6 (fs9.set 1 (va_rf none))) := ⟨_, rfl⟩
    rw [← ey8] at hI
    replace hw := hw y8 ey8
    refine hv_aload_n (r := some a0) E.1 E.2.1 dJ15_init_2_41 rfl (lv_at hl 0 rfl) ?_
    refine hv_aload_n (r := p1) E.1 E.2.1 dJ15_init_2_42 rfl (lv_at hl 1 rfl) ?_
    obtain ⟨fs11, hfs, hln, hw⟩ := hw
    refine hv_put (v := va_rf p1) E hK hI ciX8 3 (Nat.le_of_ble_eq_true rfl) q668 (fun _ h => h) rfl (rf_nar _ _ rfl) (rf_fit _ _ rfl) hfs hln dJ15_init_2_43 (fun H locs hI => ?_)
    obtain ⟨y10, ey10⟩ : ∃ w, w = hput y8 a0 (ob 6 (fs11.set 3 (va_rf p1))) := ⟨_, rfl⟩
    rw [← ey10] at hI
    replace hw := hw y10 ey10
    refine hv_aload_n (r := some a0) E.1 E.2.1 dJ15_init_2_46 rfl (lv_at hl 0 rfl) ?_
    refine hv_aload_n (r := p2) E.1 E.2.1 dJ15_init_2_47 rfl (lv_at hl 2 rfl) ?_
    obtain ⟨fs13, hfs, hln, hw⟩ := hw
    refine hv_put (v := va_rf p2) E hK hI ciX8 0 (Nat.le_of_ble_eq_true rfl) q669 (fun _ h => h) rfl (rf_nar _ _ rfl) (rf_fit _ _ rfl) hfs hln dJ15_init_2_48 (fun H locs hI => ?_)
    obtain ⟨y12, ey12⟩ : ∃ w, w = hput y10 a0 (ob 6 (fs13.set 0 (va_rf p2))) := ⟨_, rfl⟩
    rw [← ey12] at hI
    replace hw := hw y12 ey12
    refine lv_iload_n E.1 E.2.1 dJ15_init_2_51 rfl (lv_at hl 3 rfl) ?_
    refine lv_if_ne (tgt := 60) E.1 E.2.1 dJ15_init_2_52 (by decide) (fun c14 => ?_) (fun c14 => ?_)
    · replace hw := hw.1 (bi_n c14)
      exact hv_vret E hr hlocks hI (Nat.le_refl 0) hw dJ15_init_2_60
    · replace hw := hw.2 (bi_z c14)
      refine hv_aload_n (r := some a0) E.1 E.2.1 dJ15_init_2_55 rfl (lv_at hl 0 rfl) ?_
      refine lv_null E.1 E.2.1 dJ15_init_2_56 ?_
      obtain ⟨fs16, hfs, hln, hw⟩ := hw
      refine hv_put (v := va_rf none) E hK hI ciX8 2 (Nat.le_of_ble_eq_true rfl) q671 (fun _ h => h) rfl (rf_nar _ _ rfl) (rf_fit _ _ rfl) hfs hln dJ15_init_2_57 (fun H locs hI => ?_)
      obtain ⟨y15, ey15⟩ : ∃ w, w = hput y12 a0 (ob 6 (fs16.set 2 (va_rf none))) := ⟨_, rfl⟩
      rw [← ey15] at hI
      replace hw := hw y15 ey15
      exact hv_vret E hr hlocks hI (Nat.le_refl 0) hw dJ15_init_2_60
  · replace hw := hw.2 (bi_n c7)
    refine hv_aload_n (r := some a0) E.1 E.2.1 dJ15_init_2_28 rfl (lv_at hl 0 rfl) ?_
    exact hw.elim
/-- java/lang/Throwable.<init>(Ljava/lang/String;Ljava/lang/Throwable;ZZ)V -/
def wp_J15_init_2_r15 (G : GP) (post : HS → Prop) (y0 : HS) (a0 : Nat) (p1 : Option Nat) (p2 : Option Nat) (o3 : Bool) (o4 : Bool) : Prop := ∃ fs2, y0.1 a0 = some (ob 15 fs2) ∧ 0 < fs2.length ∧ ∀ y1, y1 = hput y0 a0 (ob 15 (fs2.set 0 (va_rf (some a0)))) → ∃ fs4, y1.1 a0 = some (ob 15 fs4) ∧ 1 < fs4.length ∧ ∀ y3, y3 = hput y1 a0 (ob 15 (fs4.set 1 (va_rf (gS G 1)))) → ∃ fs6, y3.1 a0 = some (ob 15 fs6) ∧ 2 < fs6.length ∧ ∀ y5, y5 = hput y3 a0 (ob 15 (fs6.set 2 (va_rf (gS G 2)))) → (o4 = false → ∃ fs9, y5.1 a0 = some (ob 15 fs9) ∧ 1 < fs9.length ∧ ∀ y8, y8 = hput y5 a0 (ob 15 (fs9.set 1 (va_rf none))) → ∃ fs11, y8.1 a0 = some (ob 15 fs11) ∧ 3 < fs11.length ∧ ∀ y10, y10 = hput y8 a0 (ob 15 (fs11.set 3 (va_rf p1))) → ∃ fs13, y10.1 a0 = some (ob 15 fs13) ∧ 0 < fs13.length ∧ ∀ y12, y12 = hput y10 a0 (ob 15 (fs13.set 0 (va_rf p2))) → (o3 = true → post y12) ∧ (o3 = false → ∃ fs16, y12.1 a0 = some (ob 15 fs16) ∧ 2 < fs16.length ∧ ∀ y15, y15 = hput y12 a0 (ob 15 (fs16.set 2 (va_rf none))) → post y15)) ∧ (o4 = true → False)
theorem hs_J15_init_2_r15 : yJ15_init_2.cls ≠ "java/lang/invoke/MethodHandle" ∧ yJ15_init_2.cls ≠ "java/lang/invoke/VarHandle" ∧ (parseMethodDescriptor yJ15_init_2.desc).map (fun d => d.parameters.length) = some 4 := by decide +kernel
set_option maxHeartbeats 4000000 in
theorem met_J15_init_2_r15 (l : Launch) (G : GP) (d : Nat) {post : HS → Prop} {y0 : HS} {a0 : Nat} {p1 : Option Nat} {p2 : Option Nat} {o3 : Bool} {o4 : Bool} (hw : wp_J15_init_2_r15 G post y0 a0 p1 p2 o3 o4) : vx_Met l yJ15_init_2 (ws_ yJ15_init_2 cJ15_init_2 5 none) (rmB (d + 1) 0) (hPc G y0 [va_rf (some a0), va_rf p1, va_rf p2, .int (bi o3), .int (bi o4)]) (hQv G y0 post) (hX G y0 (fun _ _ _ => False)) 0 (20 * 0) (HA y0) := by
  unfold wp_J15_init_2_r15 at hw
  refine hv_met (own := RJ15) (by decide) rfl (by simp [lg_sl, va_rf_cat, int_cat, long_cat]) ?_
  intro p e s m args below meth c ls E hr hlocks hnm hE hK hI hl
  replace hl : lv_has ls 5 [(0, va_rf (some a0)), (1, va_rf p1), (2, va_rf p2), (3, .int (bi o3)), (4, .int (bi o4))] := by simpa [lv_args, va_rf_cat, int_cat, long_cat] using hl
  refine hv_aload_n (r := some a0) E.1 E.2.1 dJ15_init_2_0 rfl (lv_at hl 0 rfl) ?_
  refine hv_objInit (r := some a0) E q624 hl.1 rfl (by first | rfl | decide | (simp [va_rf_cat, int_cat, long_cat]; done) | (simp [va_rf_cat, int_cat, long_cat]; decide)) dJ15_init_2_1 ?_
  refine hv_aload_n (r := some a0) E.1 E.2.1 dJ15_init_2_4 rfl (lv_at hl 0 rfl) ?_
  refine hv_aload_n (r := some a0) E.1 E.2.1 dJ15_init_2_5 rfl (lv_at hl 0 rfl) ?_
  obtain ⟨fs2, hfs, hln, hw⟩ := hw
  refine hv_put (v := va_rf (some a0)) E hK hI ciX17 0 (Nat.le_of_ble_eq_true rfl) q669 (fun _ h => h) rfl (rf_nar _ _ rfl) (rf_fit _ _ rfl) hfs hln dJ15_init_2_6 (fun H locs hI => ?_)
  obtain ⟨y1, ey1⟩ : ∃ w, w = hput y0 a0 (ob 15 (fs2.set 0 (va_rf (some a0)))) := ⟨_, rfl⟩
  rw [← ey1] at hI
  replace hw := hw y1 ey1
  refine hv_aload_n (r := some a0) E.1 E.2.1 dJ15_init_2_9 rfl (lv_at hl 0 rfl) ?_
  refine hv_gets (v := va_rf (gS G 1)) E hK hI 6 rfl q625 (fun _ h => h) dJ15_init_2_10 ?_
  obtain ⟨fs4, hfs, hln, hw⟩ := hw
  refine hv_put (v := va_rf (gS G 1)) E hK hI ciX17 1 (Nat.le_of_ble_eq_true rfl) q670 (fun _ h => h) rfl (rf_nar _ _ rfl) (rf_fit _ _ rfl) hfs hln dJ15_init_2_13 (fun H locs hI => ?_)
  obtain ⟨y3, ey3⟩ : ∃ w, w = hput y1 a0 (ob 15 (fs4.set 1 (va_rf (gS G 1)))) := ⟨_, rfl⟩
  rw [← ey3] at hI
  replace hw := hw y3 ey3
  refine hv_aload_n (r := some a0) E.1 E.2.1 dJ15_init_2_16 rfl (lv_at hl 0 rfl) ?_
  refine hv_gets (v := va_rf (gS G 2)) E hK hI 7 rfl q627 (fun _ h => h) dJ15_init_2_17 ?_
  obtain ⟨fs6, hfs, hln, hw⟩ := hw
  refine hv_put (v := va_rf (gS G 2)) E hK hI ciX17 2 (Nat.le_of_ble_eq_true rfl) q671 (fun _ h => h) rfl (rf_nar _ _ rfl) (rf_fit _ _ rfl) hfs hln dJ15_init_2_20 (fun H locs hI => ?_)
  obtain ⟨y5, ey5⟩ : ∃ w, w = hput y3 a0 (ob 15 (fs6.set 2 (va_rf (gS G 2)))) := ⟨_, rfl⟩
  rw [← ey5] at hI
  replace hw := hw y5 ey5
  refine lv_iload E.1 E.2.1 dJ15_init_2_23 (lv_at hl 4 rfl) ?_
  refine lv_if_eq (tgt := 36) E.1 E.2.1 dJ15_init_2_25 (by decide) (fun c7 => ?_) (fun c7 => ?_)
  · replace hw := hw.1 (bi_z c7)
    refine hv_aload_n (r := some a0) E.1 E.2.1 dJ15_init_2_36 rfl (lv_at hl 0 rfl) ?_
    refine lv_null E.1 E.2.1 dJ15_init_2_37 ?_
    obtain ⟨fs9, hfs, hln, hw⟩ := hw
    refine hv_put (v := va_rf none) E hK hI ciX17 1 (Nat.le_of_ble_eq_true rfl) q670 (fun _ h => h) rfl (rf_nar _ _ rfl) (rf_fit _ _ rfl) hfs hln dJ15_init_2_38 (fun H locs hI => ?_)
    obtain ⟨y8, ey8⟩ : ∃ w, w = hput y5 a0 (ob 15 (fs9.set 1 (va_rf none))) := ⟨_, rfl⟩
    rw [← ey8] at hI
    replace hw := hw y8 ey8
    refine hv_aload_n (r := some a0) E.1 E.2.1 dJ15_init_2_41 rfl (lv_at hl 0 rfl) ?_
    refine hv_aload_n (r := p1) E.1 E.2.1 dJ15_init_2_42 rfl (lv_at hl 1 rfl) ?_
    obtain ⟨fs11, hfs, hln, hw⟩ := hw
    refine hv_put (v := va_rf p1) E hK hI ciX17 3 (Nat.le_of_ble_eq_true rfl) q668 (fun _ h => h) rfl (rf_nar _ _ rfl) (rf_fit _ _ rfl) hfs hln dJ15_init_2_43 (fun H locs hI => ?_)
    obtain ⟨y10, ey10⟩ : ∃ w, w = hput y8 a0 (ob 15 (fs11.set 3 (va_rf p1))) := ⟨_, rfl⟩
    rw [← ey10] at hI
    replace hw := hw y10 ey10
    refine hv_aload_n (r := some a0) E.1 E.2.1 dJ15_init_2_46 rfl (lv_at hl 0 rfl) ?_
    refine hv_aload_n (r := p2) E.1 E.2.1 dJ15_init_2_47 rfl (lv_at hl 2 rfl) ?_
    obtain ⟨fs13, hfs, hln, hw⟩ := hw
    refine hv_put (v := va_rf p2) E hK hI ciX17 0 (Nat.le_of_ble_eq_true rfl) q669 (fun _ h => h) rfl (rf_nar _ _ rfl) (rf_fit _ _ rfl) hfs hln dJ15_init_2_48 (fun H locs hI => ?_)
    obtain ⟨y12, ey12⟩ : ∃ w, w = hput y10 a0 (ob 15 (fs13.set 0 (va_rf p2))) := ⟨_, rfl⟩
    rw [← ey12] at hI
    replace hw := hw y12 ey12
    refine lv_iload_n E.1 E.2.1 dJ15_init_2_51 rfl (lv_at hl 3 rfl) ?_
    refine lv_if_ne (tgt := 60) E.1 E.2.1 dJ15_init_2_52 (by decide) (fun c14 => ?_) (fun c14 => ?_)
    · replace hw := hw.1 (bi_n c14)
      exact hv_vret E hr hlocks hI (Nat.le_refl 0) hw dJ15_init_2_60
    · replace hw := hw.2 (bi_z c14)
      refine hv_aload_n (r := some a0) E.1 E.2.1 dJ15_init_2_55 rfl (lv_at hl 0 rfl) ?_
      refine lv_null E.1 E.2.1 dJ15_init_2_56 ?_
      obtain ⟨fs16, hfs, hln, hw⟩ := hw
      refine hv_put (v := va_rf none) E hK hI ciX17 2 (Nat.le_of_ble_eq_true rfl) q671 (fun _ h => h) rfl (rf_nar _ _ rfl) (rf_fit _ _ rfl) hfs hln dJ15_init_2_57 (fun H locs hI => ?_)
      obtain ⟨y15, ey15⟩ : ∃ w, w = hput y12 a0 (ob 15 (fs16.set 2 (va_rf none))) := ⟨_, rfl⟩
      rw [← ey15] at hI
      replace hw := hw y15 ey15
      exact hv_vret E hr hlocks hI (Nat.le_refl 0) hw dJ15_init_2_60
  · replace hw := hw.2 (bi_n c7)
    refine hv_aload_n (r := some a0) E.1 E.2.1 dJ15_init_2_28 rfl (lv_at hl 0 rfl) ?_
    exact hw.elim
/-- java/lang/Exception.<init>(Ljava/lang/String;Ljava/lang/Throwable;ZZ)V -/
def wp_J16_init_r6 (G : GP) (post : HS → Prop) (y0 : HS) (a0 : Nat) (p1 : Option Nat) (p2 : Option Nat) (o3 : Bool) (o4 : Bool) : Prop := wp_J15_init_2_r6 G (fun y1 => post y1) y0 a0 p1 p2 o3 o4
theorem hs_J16_init_r6 : yJ16_init.cls ≠ "java/lang/invoke/MethodHandle" ∧ yJ16_init.cls ≠ "java/lang/invoke/VarHandle" ∧ (parseMethodDescriptor yJ16_init.desc).map (fun d => d.parameters.length) = some 4 := by decide +kernel
set_option maxHeartbeats 4000000 in
theorem met_J16_init_r6 (l : Launch) (G : GP) (d : Nat) {post : HS → Prop} {y0 : HS} {a0 : Nat} {p1 : Option Nat} {p2 : Option Nat} {o3 : Bool} {o4 : Bool} (hw : wp_J16_init_r6 G post y0 a0 p1 p2 o3 o4) : vx_Met l yJ16_init (ws_ yJ16_init cJ16_init 5 none) (rmB (d + 2) 0) (hPc G y0 [va_rf (some a0), va_rf p1, va_rf p2, .int (bi o3), .int (bi o4)]) (hQv G y0 post) (hX G y0 (fun _ _ _ => False)) 0 (20 * 0) (HA y0) := by
  unfold wp_J16_init_r6 at hw
  refine hv_met (own := RJ16) (by decide) rfl (by simp [lg_sl, va_rf_cat, int_cat, long_cat]) ?_
  intro p e s m args below meth c ls E hr hlocks hnm hE hK hI hl
  replace hl : lv_has ls 5 [(0, va_rf (some a0)), (1, va_rf p1), (2, va_rf p2), (3, .int (bi o3)), (4, .int (bi o4))] := by simpa [lv_args, va_rf_cat, int_cat, long_cat] using hl
  refine hv_aload_n (r := some a0) E.1 E.2.1 dJ16_init_0 rfl (lv_at hl 0 rfl) ?_
  refine hv_aload_n (r := p1) E.1 E.2.1 dJ16_init_1 rfl (lv_at hl 1 rfl) ?_
  refine hv_aload_n (r := p2) E.1 E.2.1 dJ16_init_2 rfl (lv_at hl 2 rfl) ?_
  refine lv_iload_n E.1 E.2.1 dJ16_init_3 rfl (lv_at hl 3 rfl) ?_
  refine lv_iload E.1 E.2.1 dJ16_init_4 (lv_at hl 4 rfl) ?_
  have hq := hw
  clear hw
  refine hv_callv (u := 0) (B1 := 0) hI (vx_runI (b := a0) (As := [va_rf p1, va_rf p2, .int (bi o3), .int (bi o4)]) (rest := []) E (met_J15_init_2_r6 l G (d) hq) (cwI 4 E.2.2.2.2 (lw_meth q664) rfl rfl rfl (E.2.2.2.2 _ q146) (E.2.2.2.2 _ q662) (E.2.2.2.2 _ q663) rfl hs_J15_init_2_r6 (rm_ok (by omega) (by decide))) (hv_preS hK hI) rfl rfl hl.1 rfl (lv_room (by first | rfl | decide | (simp [va_rf_cat, int_cat, long_cat]; done) | (simp [va_rf_cat, int_cat, long_cat]; decide))) dJ16_init_6 (hv_fit (by first | exact (Nat.le_refl 0) | omega))) (fun _ _ _ _ _ h => h.elim) (fun y1 H locs hw hI => ?_)
  exact hv_vret E hr hlocks hI (Nat.le_refl 0) hw dJ16_init_9
/-- java/lang/Exception.<init>(Ljava/lang/String;Ljava/lang/Throwable;ZZ)V -/
def wp_J16_init_r15 (G : GP) (post : HS → Prop) (y0 : HS) (a0 : Nat) (p1 : Option Nat) (p2 : Option Nat) (o3 : Bool) (o4 : Bool) : Prop := wp_J15_init_2_r15 G (fun y1 => post y1) y0 a0 p1 p2 o3 o4
theorem hs_J16_init_r15 : yJ16_init.cls ≠ "java/lang/invoke/MethodHandle" ∧ yJ16_init.cls ≠ "java/lang/invoke/VarHandle" ∧ (parseMethodDescriptor yJ16_init.desc).map (fun d => d.parameters.length) = some 4 := by decide +kernel
set_option maxHeartbeats 4000000 in
theorem met_J16_init_r15 (l : Launch) (G : GP) (d : Nat) {post : HS → Prop} {y0 : HS} {a0 : Nat} {p1 : Option Nat} {p2 : Option Nat} {o3 : Bool} {o4 : Bool} (hw : wp_J16_init_r15 G post y0 a0 p1 p2 o3 o4) : vx_Met l yJ16_init (ws_ yJ16_init cJ16_init 5 none) (rmB (d + 2) 0) (hPc G y0 [va_rf (some a0), va_rf p1, va_rf p2, .int (bi o3), .int (bi o4)]) (hQv G y0 post) (hX G y0 (fun _ _ _ => False)) 0 (20 * 0) (HA y0) := by
  unfold wp_J16_init_r15 at hw
  refine hv_met (own := RJ16) (by decide) rfl (by simp [lg_sl, va_rf_cat, int_cat, long_cat]) ?_
  intro p e s m args below meth c ls E hr hlocks hnm hE hK hI hl
  replace hl : lv_has ls 5 [(0, va_rf (some a0)), (1, va_rf p1), (2, va_rf p2), (3, .int (bi o3)), (4, .int (bi o4))] := by simpa [lv_args, va_rf_cat, int_cat, long_cat] using hl
  refine hv_aload_n (r := some a0) E.1 E.2.1 dJ16_init_0 rfl (lv_at hl 0 rfl) ?_
  refine hv_aload_n (r := p1) E.1 E.2.1 dJ16_init_1 rfl (lv_at hl 1 rfl) ?_
  refine hv_aload_n (r := p2) E.1 E.2.1 dJ16_init_2 rfl (lv_at hl 2 rfl) ?_
  refine lv_iload_n E.1 E.2.1 dJ16_init_3 rfl (lv_at hl 3 rfl) ?_
  refine lv_iload E.1 E.2.1 dJ16_init_4 (lv_at hl 4 rfl) ?_
  have hq := hw
  clear hw
  refine hv_callv (u := 0) (B1 := 0) hI (vx_runI (b := a0) (As := [va_rf p1, va_rf p2, .int (bi o3), .int (bi o4)]) (rest := []) E (met_J15_init_2_r15 l G (d) hq) (cwI 4 E.2.2.2.2 (lw_meth q664) rfl rfl rfl (E.2.2.2.2 _ q146) (E.2.2.2.2 _ q662) (E.2.2.2.2 _ q663) rfl hs_J15_init_2_r15 (rm_ok (by omega) (by decide))) (hv_preS hK hI) rfl rfl hl.1 rfl (lv_room (by first | rfl | decide | (simp [va_rf_cat, int_cat, long_cat]; done) | (simp [va_rf_cat, int_cat, long_cat]; decide))) dJ16_init_6 (hv_fit (by first | exact (Nat.le_refl 0) | omega))) (fun _ _ _ _ _ h => h.elim) (fun y1 H locs hw hI => ?_)
  exact hv_vret E hr hlocks hI (Nat.le_refl 0) hw dJ16_init_9
