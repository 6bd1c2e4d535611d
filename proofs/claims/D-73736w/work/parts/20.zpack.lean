/-! The model's packed(word), in the component's regime (Strings of the old heap alone) -/
set_option maxRecDepth 100000
theorem W.drop {p : Program} {l : Launch} {e : Env} {R : Room} {s : State} {m : MethodId} {args : Array Value} {below : List Frame} {meth : Method} {c : Code} {H : Heap} {locs : List Loc} {cells slots : Nat} {Q : State → Prop} {g : JFrame} (hl : ∀ x ∈ locs, s.heap.size ≤ x.base) (k : W p l e R s m args below meth c H [] cells slots Q g) : W p l e R s m args below meth c H locs cells slots Q g := fun T hT X => k T hT (Stand.forget (locs := []) (extra := locs) (by rw [List.nil_append]; exact X) hl)
theorem i2l_c : ∀ c, c < 128 → (nI c).toInt64 = Int64.ofNat c := by decide +kernel
theorem pk_len : ∀ k, k < 20 → (nI (wd k).length) >>> ((0 : Int32) &&& 31) = nI (wd k).length ∧ (wd k).length < 9 ∧ ∀ b ∈ wd k, b < 128 := by decide +kernel
theorem pk_chv : ∀ c, c < 128 → ((nI c &&& nI 255).toUInt32 % 65536).toInt32 = nI c ∧ narrow .char (.int (nI c)) = .int (nI c) := by decide +kernel
theorem pk_J5_length {G : GP} {y : HS} {k : Nat} {post : Int32 → HS → Prop} (hk : k < 20) (hp : post (nI (wd k).length) y) : wp_J5_length G post y (gK G k) := by
  have c1 : rd G y (gK G k) (ob 20 [va_rf (some (gV G k)), .int 0, .int (whT.getD k 0), .int 0]) := Or.inr (Or.inl ⟨k, hk, rfl, rfl⟩)
  refine ⟨_, ⟨_, c1, rfl⟩, gV G k, rfl, _, _, Or.inr (Or.inr (Or.inl ⟨k, hk, rfl, rfl⟩)), ⟨_, c1⟩, fun z => absurd z (by decide), fun _ => ⟨0, ⟨_, c1, rfl⟩, rfl, ?_⟩⟩
  show post (nI (wd k).length >>> ((0 : Int32) &&& 31)) y
  rw [(pk_len k hk).1]
  exact hp
theorem pk_J5_charAt {G : GP} {y : HS} {k j : Nat} {post : Int32 → HS → Prop} (hk : k < 20) (hj : j < (wd k).length) (hp : post (nI (wd k)[j]) y) : wp_J5_charAt G post y (gK G k) (nI j) := by
  have c1 : rd G y (gK G k) (ob 20 [va_rf (some (gV G k)), .int 0, .int (whT.getD k 0), .int 0]) := Or.inr (Or.inl ⟨k, hk, rfl, rfl⟩)
  have c2 : rd G y (gV G k) (ai 3 (wd k).length (fun j => nI ((wd k).getD j 0))) := Or.inr (Or.inr (Or.inl ⟨k, hk, rfl, rfl⟩))
  have l9 := (pk_len k hk).2.1
  have b1 := (pk_len k hk).2.2 _ (List.getElem_mem hj)
  have e1 : nI ((wd k).getD (nI j).toNatClampNeg 0) = nI (wd k)[j] := by
    rw [nI_clamp (by omega), List.getD_eq_getElem?_getD, List.getElem?_eq_getElem hj]; rfl
  obtain ⟨v1, v2⟩ := pk_chv _ b1
  refine ⟨⟨_, c1⟩, fun z => absurd z (by decide), fun _ => ⟨0, ⟨_, c1, rfl⟩, fun z => absurd rfl z, fun _ => ⟨fun z => (by cases z), fun _ => ⟨_, ⟨_, c1, rfl⟩, gV G k, rfl, _, _, c2, fun _ => False, fun _ z => z, fun z => ?_, fun z => ⟨fun z2 => ⟨_, _, c2, nI_in hj (by omega), ?_, ?_, ?_⟩, fun z2 => ?_⟩⟩⟩⟩⟩
  · exact absurd z (fun z => by
      have z2 := Int32.lt_iff_toInt_lt.mp z
      rw [nI_toInt (by omega)] at z2
      have e0 : (0 : Int32).toInt = 0 := by decide
      omega)
  · rw [e1, v1]; exact v2
  · rw [e1, v1]; exact v2
  · rw [e1, v1]; exact hp
  · exact z2 ((nI_ltI (by omega) (by omega)).mpr hj)
theorem nle_of' {i n : Nat} (h : i < n) (hn : n < 9) : ¬ nI n ≤ nI i := fun z => by
  have z2 := Int32.le_iff_toInt_le.mp z
  rw [nI_toInt (by omega), nI_toInt (by omega)] at z2
  omega
theorem met_packed (l : Launch) (G : GP) (ta : Nat → Nat) (d : Nat) {post : Int64 → TS → Prop} {z0 : TS} {k0 : Nat} (hw : wp_packed post z0 k0) : Met l yX5_packed (ws_ yX5_packed cX5_packed 4 (some .long)) (rmd (d + 6) 0 0) (tPc G ta z0 [.ref (gK G k0)]) (tQl G ta post) 0 0 (TA ta) := by
  obtain ⟨hk0, hw⟩ := hw
  refine tw_met (by decide) rfl (Nat.le_of_ble_eq_true rfl) ?_
  intro p e s m args below meth c ls E hr hlocks hK hT hS hl
  replace hl : lv_has ls 4 [(0, .ref (gK G k0))] := hl
  have hl9 := (pk_len k0 hk0).2.1
  have hsz : (gH G).size ≤ s.heap.size := by
    rcases Nat.lt_or_ge s.heap.size (gH G).size with z | z
    · have := hK.1.2.1 s.heap.size z
      rw [Array.getElem?_eq_none (Nat.le_refl _), Array.getElem?_eq_getElem z] at this
      cases this
    · exact z
  have hI0 : HI G ((fun _ => none), s.heap.size) ((fun _ => none), s.heap.size) s s.heap [] := HI.start ⟨rfl, hsz, fun a x hx => by cases hx⟩
  refine lv_lconst (v := 0) E.1 E.2.1 dX5_packed_0 rfl ?_
  refine lv_lstore_n (lv' := [(1, .long 0), (0, .ref (gK G k0))]) E.1 E.2.1 dX5_packed_1 rfl hl (Nat.le_of_ble_eq_true rfl) rfl (fun ls hl => ?_)
  refine lv_iconst (v := nI 0) E.1 E.2.1 dX5_packed_2 rfl ?_
  refine lv_istore_n (lv' := [(3, .int (nI 0)), (1, .long 0), (0, .ref (gK G k0))]) E.1 E.2.1 dX5_packed_3 rfl hl (Nat.le_of_ble_eq_true rfl) rfl (fun ls hl => ?_)
  have hlen : ∀ (i : Nat) (H : Heap) (locs : List Loc) (ls : Array Slot) (y1 : HS) (v : Int64), HI G ((fun _ => none), s.heap.size) y1 s H locs → lv_has ls 4 [(3, .int (nI i)), (1, .long v), (0, .ref (gK G k0))] → (∀ (H1 : Heap) (locs1 : List Loc) (y2 : HS), HI G ((fun _ => none), s.heap.size) y2 s H1 locs1 → (nI (wd k0).length ≤ nI i → W p l e (rmd (d + 6) 0 0) s m args below meth c H1 locs1 0 0 (MQ below (tQl G ta post) args s 0 0 (TA ta)) (F0 m 31 ls [])) ∧ (¬ nI (wd k0).length ≤ nI i → W p l e (rmd (d + 6) 0 0) s m args below meth c H1 locs1 0 0 (MQ below (tQl G ta post) args s 0 0 (TA ta)) (F0 m 12 ls []))) → W p l e (rmd (d + 6) 0 0) s m args below meth c H locs 0 0 (MQ below (tQl G ta post) args s 0 0 (TA ta)) (F0 m 4 ls []) := by
    intro i H locs ls y1 v hI hl kk
    refine lv_iload_n E.1 E.2.1 dX5_packed_4 rfl (lv_at hl 0 rfl) ?_
    refine lv_aload_n E.1 E.2.1 dX5_packed_5 rfl (lv_at hl 2 rfl) ?_
    have hq : wp_J5_length G (fun x _ => x = nI (wd k0).length) y1 (gK G k0) := pk_J5_length hk0 rfl
    have hrv : rd G y1 (gK G k0) (ob 20 [va_rf (some (gV G k0)), .int 0, .int (whT.getD k0 0), .int 0]) := Or.inr (Or.inl ⟨k0, hk0, rfl, rfl⟩)
    refine hv_calli (u := 0) (B1 := 0) hI (vx_runV (As := []) (rest := [.int (nI i)]) E (met_J5_length l G d hq) (cwV 0 E.2.2.2.2 (lw_V q2086 q2087 q2088 q132 q2089) rfl rfl rfl hd_J5_length (rm_ok (by omega) (by decide))) (hv_preV hK.1 hI hrv rfl) rfl rfl hl.1 rfl (lv_room (by first | rfl | decide | (simp [va_rf_cat, int_cat, long_cat]; done) | (simp [va_rf_cat, int_cat, long_cat]; decide))) dX5_packed_6 (hv_fit (by first | exact (Nat.le_refl 0) | omega))) (fun _ _ _ _ _ h => h.elim) (fun x y2 H1 locs1 hx hI2 => ?_)
    subst hx
    refine lv_icmp_ge (tgt := 31) E.1 E.2.1 dX5_packed_9 (by decide) (fun c1 => ?_) (fun c1 => ?_)
    · exact (kk H1 locs1 y2 hI2).1 c1
    · exact (kk H1 locs1 y2 hI2).2 c1
  have loop : ∀ (n i : Nat) (H : Heap) (locs : List Loc) (ls : Array Slot) (y1 : HS), i + n = (wd k0).length → HI G ((fun _ => none), s.heap.size) y1 s H locs → lv_has ls 4 [(3, .int (nI i)), (1, .long (((wd k0).take i).foldl (fun v c => 256 * v + Int64.ofNat c) 0)), (0, .ref (gK G k0))] → W p l e (rmd (d + 6) 0 0) s m args below meth c H locs 0 0 (MQ below (tQl G ta post) args s 0 0 (TA ta)) (F0 m 4 ls []) := by
    intro n
    induction n with
    | zero =>
      intro i H locs ls y1 hi hI hl
      refine hlen i H locs ls y1 _ hI hl (fun H1 locs1 y2 hI2 => ⟨fun _ => ?_, fun c1 => ?_⟩)
      · refine lv_lload_n E.1 E.2.1 dX5_packed_31 rfl (lv_at hl 1 rfl) ?_
        rw [List.take_of_length_le (by omega)]
        have kept : ∀ q : Nat, q < s.heap.size → H1[q]? = s.heap[q]? := fun q hq => hI2.2.2.1.2.1 q hq (fun hA => by
          rcases hA with hA | hA
          · exact hA rfl
          · exact absurd hA (by show ¬ s.heap.size ≤ q; omega))
        have lt9 : ∀ (q : Nat) (x : Cell), s.heap[q]? = some x → q < s.heap.size := fun q x hx => (Array.getElem?_eq_some_iff.mp hx).1
        have hT1 : TW G ta z0 H1 := by
          refine ⟨hT.1.kept (kept _ ?_), fun k hk => (kept _ (lt9 _ _ (hT.2 k hk))).trans (hT.2 k hk)⟩
          obtain ⟨cell, h2, -⟩ := hT.1
          exact lt9 _ _ h2
        refine W.drop (fun x hx => ?_) (tw_lret E hr hlocks hT1 ⟨hI2.2.2.1.1, fun q hq _ => kept q hq, fun _ h => nomatch h⟩ hw dX5_packed_32)
        rcases hI2.2.2.1.2.2 x hx with hA | hA
        · exact absurd rfl hA
        · exact hA
      · exact absurd (by rw [show i = (wd k0).length by omega]; exact Int32.le_refl _) c1
    | succ n ih =>
      intro i H locs ls y1 hi hI hl
      have hil : i < (wd k0).length := by omega
      refine hlen i H locs ls y1 _ hI hl (fun H1 locs1 y2 hI2 => ⟨fun c1 => ?_, fun c1 => ?_⟩)
      · exact absurd c1 (nle_of' hil hl9)
      · refine lv_ldc2 (v := 256) E.1 E.2.1 E.2.2.2.1 (E.2.2.2.2 _ q2073) dX5_packed_12 ?_
        refine lv_lload_n E.1 E.2.1 dX5_packed_15 rfl (lv_at hl 1 rfl) ?_
        refine lv_lmul E.1 E.2.1 dX5_packed_16 ?_
        refine lv_aload_n E.1 E.2.1 dX5_packed_17 rfl (lv_at hl 2 rfl) ?_
        refine lv_iload_n E.1 E.2.1 dX5_packed_18 rfl (lv_at hl 0 rfl) ?_
        have hq : wp_J5_charAt G (fun x _ => x = nI (wd k0)[i]) y2 (gK G k0) (nI i) := pk_J5_charAt hk0 hil rfl
        have hrv : rd G y2 (gK G k0) (ob 20 [va_rf (some (gV G k0)), .int 0, .int (whT.getD k0 0), .int 0]) := Or.inr (Or.inl ⟨k0, hk0, rfl, rfl⟩)
        refine hv_calli (u := 0) (B1 := 0) hI2 (vx_runV (As := [.int (nI i)]) (rest := [.long (256 * ((wd k0).take i).foldl (fun v c => 256 * v + Int64.ofNat c) 0)]) E (met_J5_charAt l G d hq) (cwV 1 E.2.2.2.2 (lw_V q2094 q2095 q2096 q132 q2097) rfl rfl rfl hd_J5_charAt (rm_ok (by omega) (by decide))) (hv_preV hK.1 hI2 hrv rfl) rfl rfl hl.1 rfl (lv_room (by first | rfl | decide | (simp [va_rf_cat, int_cat, long_cat]; done) | (simp [va_rf_cat, int_cat, long_cat]; decide))) dX5_packed_19 (hv_fit (by first | exact (Nat.le_refl 0) | omega))) (fun _ _ _ _ _ h => h.elim) (fun x y3 H3 locs3 hx hI3 => ?_)
        subst hx
        refine lv_i2l E.1 E.2.1 dX5_packed_22 rfl ?_
        refine lv_ladd E.1 E.2.1 dX5_packed_23 ?_
        have ev : 256 * ((wd k0).take i).foldl (fun v c => 256 * v + Int64.ofNat c) 0 + (nI (wd k0)[i]).toInt64 = ((wd k0).take (i + 1)).foldl (fun v c => 256 * v + Int64.ofNat c) 0 := by
          rw [i2l_c _ ((pk_len k0 hk0).2.2 _ (List.getElem_mem hil)), List.take_succ, List.getElem?_eq_getElem hil, List.foldl_append]
          rfl
        rw [ev]
        refine lv_lstore_n (lv' := [(1, .long (((wd k0).take (i + 1)).foldl (fun v c => 256 * v + Int64.ofNat c) 0)), (3, .int (nI i)), (0, .ref (gK G k0))]) E.1 E.2.1 dX5_packed_24 rfl hl (Nat.le_of_ble_eq_true rfl) rfl (fun ls hl => ?_)
        refine lv_iinc (k := 1) (v := nI i + nI 1) (lv' := [(3, .int (nI i + nI 1)), (1, .long (((wd k0).take (i + 1)).foldl (fun v c => 256 * v + Int64.ofNat c) 0)), (0, .ref (gK G k0))]) E.1 E.2.1 dX5_packed_25 hl rfl rfl (Nat.le_of_ble_eq_true rfl) rfl (fun ls hl => ?_)
        refine lv_goto (tgt := 4) E.1 E.2.1 dX5_packed_28 (by decide) ?_
        rw [nI_add] at hl
        exact ih (i + 1) H3 locs3 ls y3 (by omega) hI3 hl
  exact loop _ 0 _ _ _ _ (Nat.zero_add _) hI0 hl
