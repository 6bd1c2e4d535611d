/-! The component's edition() -/
set_option maxRecDepth 100000
theorem cx_edition {G : GP} {y : HS} {X : Nat} {M : MS} {B : Nat} {post : Int32 → HS → Prop} (hG : GK G) (h : XR G y X M) (hB : 5000 ≤ B) (hp : ∀ y', XR G y' X (aEdition M).2 → post (aEdition M).1 y') : wp_X1_edition G B post y X := by
  obtain ⟨g, h⟩ := h
  obtain ⟨-, ⟨c1, c2, c3, c4, c5⟩, -⟩ := id h
  refine ⟨_, ⟨_, c1, rfl⟩, _, c1, by simp, fun y2 hy2 => ?_⟩
  have hX2 : y2.1 X = some (ob 0 [va_rf (some (xTp g)), .int (nI 0), .int (mF M), va_rf (some (xLs g)), va_rf (some (xE g)), va_rf (xKq g), va_rf (some (xSn g)), va_rf (some (xOt g))]) := by rw [hy2, hput_at]; rfl
  refine ⟨_, hX2, by simp, fun y4 hy4 => ?_⟩
  have hX4 : y4.1 X = some (ob 0 [va_rf (some (xTp g)), .int (nI 0), .int (-1), va_rf (some (xLs g)), va_rf (some (xE g)), va_rf (xKq g), va_rf (some (xSn g)), va_rf (some (xOt g))]) := by rw [hy4, hput_at]; rfl
  have u2 : SU y y2 X := by rw [hy2]; exact SU.put
  have u4 : SU y y4 X := u2.tr (by rw [hy4]; exact SU.put)
  obtain ⟨a1, a2, a3, a4, a5, a6, a7⟩ := h.sx u4 ⟨_, hX4⟩
  have H4 : XRg G y4 X (mE M, mK M, mS M, [], -1) g := ⟨a1, ⟨hX4, a7, Nat.zero_le _, fun b hb => (by cases hb), fun j hj => absurd hj (Nat.not_lt_zero _)⟩, a2, a3, a4, a5, a6, h.2.2.2.2.2.2.2⟩
  have w4 := a1.1
  unfold aEdition at hp
  refine ⟨fun hle => ?_, fun hgt => ?_⟩
  · have h900 : (mT M).length ≤ 900 := by
      have z := Int32.le_iff_toInt_le.mp hle
      rw [nI_toInt (by omega), nI_toInt (by omega)] at z
      omega
    rw [if_neg (by omega)] at hp
    refine ⟨by omega, ?_⟩
    rintro a8 rfl y7 hy7
    have w7 : WF G y7 := by rw [hy7]; exact w4.new
    have r7 : y7.1 y4.2 = some (ob 4 [.int 0, va_rf none, .int 0, .int 0, va_rf none, .int 0, .int 0, .int 0, va_rf none, va_rf none]) := by rw [hy7, hnew_at]
    have n7 : y7.2 = y4.2 + 1 := by rw [hy7]; rfl
    have lX := w4.lt hX4
    have lT := w4.lt a7
    refine ⟨8, by omega, x6_init (n0 := y4.2) w7 (Nat.le_refl _) r7 (Nat.le_refl _) (fun y9 e D K g9 v9 p9 r9 o9 n9 g9a gN gX => ?_)⟩
    have o9' : ∀ b, b < y4.2 → y9.1 b = y4.1 b := fun b hb => by rw [o9 b (by omega) (by omega), hy7, hnew_ne (by omega)]
    have tX : tpX y9 X (xTp g) (mT M) := ⟨⟨_, (o9' X lX).trans hX4⟩, ⟨xGt g, (o9' _ lT).trans a7, c5⟩, h900, c4⟩
    refine ⟨⟨_, Or.inl r9⟩, 5 * (mT M).length + 470, by omega, px_whole (y0 := y4) hG h900 v9.1.1 v9 p9 r9 tX (by omega) (by omega) o9' (Nat.le_refl _) (by omega) g9a gN gX (Nat.le_refl _) (fun y11 D' g' n E hW hE v11 i11 o11 n11 => ?_) (fun f n q y19 hW hF => ?_)⟩
    · rw [hW] at hp
      obtain ⟨H11, E11⟩ := H4.join v11 o11 hE
      have hX11 := (o11 X lX).trans hX4
      refine ⟨_, hX11, by simp, fun y15 hy15 => ?_⟩
      have hX15 : y15.1 X = some (ob 0 [va_rf (some (xTp g)), .int (nI 0), .int (-1), va_rf (some (xLs g)), va_rf (some e), va_rf (xKq g), va_rf (some (xSn g)), va_rf (some (xOt g))]) := by rw [hy15, hput_at]; rfl
      have u15 : SU y11 y15 X := by rw [hy15]; exact SU.put
      obtain ⟨b1, b2, b3, b4, b5, b6, b7⟩ := H11.sx u15 ⟨_, hX15⟩
      have E15 := E11.kb (u15.kb H11.cx rfl) ((u15.kc H11.cx (by decide) _ _ E11.1.1).trans E11.1.1.symm) (u15.kf H11.1 H11.cx (by decide))
      obtain ⟨fsR, i1, i2⟩ := i11
      refine ⟨nI n, ⟨fsR, (u15.1 _ (by omega)).trans i1, i2⟩, hp y15 ⟨(jD y4.2 (xD g) D', jO y4.2 (xO g), g.2.2.1, (e, g'), g.2.2.2.2), b1, ⟨hX15, b7, Nat.zero_le _, fun b hb => (by cases hb), fun j hj => absurd hj (Nat.not_lt_zero _)⟩, b2, E15, b4, b5, b6, h.2.2.2.2.2.2.2⟩⟩
    · rw [hW] at hp
      obtain ⟨w19, ⟨w, w1, w2, w3, w4', w5, q1, f0, f1, f2, f3, f4, f5, q2⟩, o19, n19⟩ := hF
      have H19 := H4.fr w19 o19
      have hX19 := (o19 X lX).trans hX4
      refine ⟨rfl, nI n, ⟨_, q1, rfl⟩, _, hX19, by simp, fun y21 hy21 => ?_⟩
      have hX21 : y21.1 X = some (ob 0 [va_rf (some (xTp g)), .int (nI 0), .int (nI n), va_rf (some (xLs g)), va_rf (some (xE g)), va_rf (xKq g), va_rf (some (xSn g)), va_rf (some (xOt g))]) := by rw [hy21, hput_at]; rfl
      have u21 : SU y19 y21 X := by rw [hy21]; exact SU.put
      obtain ⟨b1, b2, b3, b4, b5, b6, b7⟩ := H19.sx u21 ⟨_, hX21⟩
      have hqX : q ≠ X := fun ee => by rw [ee, hX19] at q1; exact absurd (ob_inj.mp (Option.some.inj q1)).1 (by decide)
      have hwX : w ≠ X := fun ee => by rw [ee, hX19] at q2; exact absurd (ob_inj.mp (Option.some.inj q2)).1 (by decide)
      have q1' := (u21.1 q hqX).trans q1
      have q2' := (u21.1 w hwX).trans q2
      refine ⟨some w, ⟨_, q1', rfl⟩, fun ee => ?_, true, Or.inr ⟨w, 6, _, rfl, Or.inl q2', by decide, Or.inl ⟨rfl, rfl⟩⟩, fun hb => (by cases hb), fun _ => ⟨fun z hz => (by cases hz; exact ⟨_, Or.inl q2'⟩), w, rfl, nI f, ⟨_, q2', rfl⟩, hp y21 ⟨g, b1, ⟨hX21, b7, Nat.zero_le _, fun b hb => (by cases hb), fun j hj => absurd hj (Nat.not_lt_zero _)⟩, b2, b3, b4, b5, b6, h.2.2.2.2.2.2.2⟩⟩⟩
      cases ee
      rw [q1] at q2
      exact absurd (ob_inj.mp (Option.some.inj q2)).1 (by decide)
  · have h900 : 900 < (mT M).length := Nat.lt_of_not_le (fun z => hgt (Int32.le_iff_toInt_le.mpr (by rw [nI_toInt (by omega), nI_toInt (by omega)]; omega)))
    rw [if_pos h900] at hp
    exact hp y4 ⟨g, H4⟩
