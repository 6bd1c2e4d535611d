/-! The component is made -/
set_option maxRecDepth 100000
theorem PE.ex0 {G : GP} {y : HS} {D Dl : LM} {K : Nat → Nat} {e : Nat} {g : EG} {gA : Nat → List Cn} (h : PE G y D K e E0 0 g gA) (hN : ∀ d r n, ¬ gNR g d r n) (hC : ∀ d r n, ¬ gCR g d r n) (hX : gXc g = []) (hd : ∀ l xs, D l = some xs → K l ≤ 5 → Dl l = some xs) : EX G y D Dl e E0 g := by
  obtain ⟨⟨c1, ⟨xs, a1, a2⟩, ⟨ys, b1, b2⟩, c3, c4, -⟩, -, ⟨k1, k2, k3, k4, k5, k6, k7⟩, p1, p2, p3, p4, p5⟩ := h
  have hys : ys = [] := List.eq_nil_of_length_eq_zero b2.1
  subst hys
  refine ⟨⟨c1, ⟨xs, hd _ _ a1 (by omega), a2⟩, ⟨[], hd _ _ b1 (by omega), All2.nil⟩, c3, c4⟩, ⟨fun d r i z => absurd z (hC d r i), fun d r i z => absurd z (hN d r i), fun m n hm => absurd hm (Nat.not_lt_zero _)⟩, hd _ _ p1 (by omega), ⟨p3, fun k a b => absurd b (Nat.not_lt_zero _)⟩, p2, hd _ _ k6 (by omega), hd _ _ k7 (by omega), fun n x z => (by cases z), ⟨fun i k z => (by cases z), fun n x z => (by cases z), fun c z => (by cases z), fun c z => (by cases z)⟩, Nat.zero_le _, Nat.zero_le _, Nat.zero_le _, Nat.zero_le _⟩
theorem cx_init {G : GP} {y : HS} {X B : Nat} {post : HS → Prop} (hw : WF G y) (hX : y.1 X = some (ob 0 [va_rf none, .int 0, .int 0, va_rf none, va_rf none, va_rf none, va_rf none, va_rf none])) (hB : 60 ≤ B) (hp : ∀ y', XR G y' X (E0, none, [], [], -1) → post y') : wp_X1_init G B post y X := by
  have lX := hw.lt hX
  refine ⟨by omega, ?_⟩
  rintro a2 rfl y1 hy1
  have n1 : y1.2 = y.2 + 1 := by rw [hy1]; rfl
  have w1 : WF G y1 := by rw [hy1]; exact hw.new
  have x1 : y1.1 X = some (ob 0 [va_rf none, .int 0, .int 0, va_rf none, va_rf none, va_rf none, va_rf none, va_rf none]) := by rw [hy1, hnew_ne (by omega)]; exact hX
  have t1 : y1.1 y.2 = some (ai 3 936 (fun _ => 0)) := by rw [hy1, hnew_at]
  refine ⟨_, x1, by simp, fun y3 hy3 => ?_⟩
  have x3 : y3.1 X = some (ob 0 [va_rf (some y.2), .int 0, .int 0, va_rf none, va_rf none, va_rf none, va_rf none, va_rf none]) := by rw [hy3, hput_at]; rfl
  refine ⟨_, x3, by simp, fun y5 hy5 => ⟨by omega, ?_⟩⟩
  rintro a8 rfl y7 hy7
  have w3 : WF G y3 := by rw [hy3]; exact w1.put x1
  have w5 : WF G y5 := by rw [hy5]; exact w3.put x3
  have w7 : WF G y7 := by rw [hy7]; exact w5.new
  have n5 : y5.2 = y.2 + 1 := by rw [hy5, hy3]; exact n1
  have n7 : y7.2 = y5.2 + 1 := by rw [hy7]; rfl
  have x5 : y5.1 X = some (ob 0 [va_rf (some y.2), .int 0, .int (-1), va_rf none, va_rf none, va_rf none, va_rf none, va_rf none]) := by rw [hy5, hput_at]; rfl
  have t5 : y5.1 y.2 = some (ai 3 936 (fun _ => 0)) := by rw [hy5, hput_ne (by omega), hy3, hput_ne (by omega)]; exact t1
  refine (V2.none (n0 := 0) w7).init (a := y5.2) rfl (Nat.zero_le _) (by rw [hy7, hnew_at]) (fun y9 v9 o9 z9 kp9 c9 k9 => ?_)
  have x9 : y9.1 X = some (ob 0 [va_rf (some y.2), .int 0, .int (-1), va_rf none, va_rf none, va_rf none, va_rf none, va_rf none]) := by rw [o9 X (by omega), hy7, hnew_ne (by omega)]; exact x5
  have t9 : y9.1 y.2 = some (ai 3 936 (fun _ => 0)) := by rw [o9 _ (by omega), hy7, hnew_ne (by omega)]; exact t5
  refine ⟨_, x9, by simp, fun y10 hy10 => ⟨by omega, ?_⟩⟩
  rintro a13 rfl y12 hy12
  have x10 : y10.1 X = some (ob 0 [va_rf (some y.2), .int 0, .int (-1), va_rf (some y5.2), va_rf none, va_rf none, va_rf none, va_rf none]) := by rw [hy10, hput_at]; rfl
  have t10 : y10.1 y.2 = some (ai 3 936 (fun _ => 0)) := by rw [hy10, hput_ne (by omega)]; exact t9
  have v10 := v9.putE x9 (by decide) hy10
  have v12 := v10.nw (x := ob 1 [va_rf none, va_rf none, va_rf none, va_rf none, va_rf none, va_rf none, va_rf none, .int 0, .int 0])
  rw [← hy12] at v12
  have n10 : y10.2 = y7.2 := by rw [hy10, hput_2, z9]
  have n12 : y12.2 = y10.2 + 1 := by rw [hy12]; rfl
  have x12 := (show y12.1 X = y10.1 X from by rw [hy12, hnew_ne (by omega)]).trans x10
  have t12 : y12.1 y.2 = some (ai 3 936 (fun _ => 0)) := by rw [hy12, hnew_ne (by omega)]; exact t10
  refine ⟨7, by omega, x2_init v12 (Nat.zero_le _) (by rw [hy12, hnew_at]) (Nat.le_refl _) (fun y14 D K g v14 p14 o14 n14 g14 gN gX gC dK => ?_)⟩
  have x14 := (o14 X (by omega) (by omega)).trans x12
  have t14 := (o14 y.2 (by omega) (by omega)).trans t12
  have hls : D y5.2 = some [] := by rw [(dK y5.2 (by omega)).1, up_at]
  refine ⟨_, x14, by simp, fun y16 hy16 => ⟨by omega, ?_⟩⟩
  rintro a19 rfl y18 hy18
  have x16 : y16.1 X = some (ob 0 [va_rf (some y.2), .int 0, .int (-1), va_rf (some y5.2), va_rf (some y10.2), va_rf none, va_rf none, va_rf none]) := by rw [hy16, hput_at]; rfl
  have n16 : y16.2 = y14.2 := by rw [hy16]; rfl
  have n18 : y18.2 = y16.2 + 1 := by rw [hy18]; rfl
  have x18 := (show y18.1 X = y16.1 X from by rw [hy18, hnew_ne (by omega)]).trans x16
  have w14 := v14.1.1
  have w16 : WF G y16 := by rw [hy16]; exact w14.put x14
  have w18 : WF G y18 := by rw [hy18]; exact w16.new
  refine ⟨_, x18, by simp, fun y21 hy21 => ⟨by omega, ?_⟩⟩
  rintro a24 rfl y23 hy23
  have x21 : y21.1 X = some (ob 0 [va_rf (some y.2), .int 0, .int (-1), va_rf (some y5.2), va_rf (some y10.2), va_rf none, va_rf (some y16.2), va_rf none]) := by rw [hy21, hput_at]; rfl
  have n21 : y21.2 = y18.2 := by rw [hy21]; rfl
  have n23 : y23.2 = y21.2 + 1 := by rw [hy23]; rfl
  have x23 := (show y23.1 X = y21.1 X from by rw [hy23, hnew_ne (by omega)]).trans x21
  have w21 : WF G y21 := by rw [hy21]; exact w18.put x18
  have w23 : WF G y23 := by rw [hy23]; exact w21.new
  refine ⟨_, x23, by simp, fun y26 hy26 => ?_⟩
  have x26 : y26.1 X = some (ob 0 [va_rf (some y.2), .int 0, .int (-1), va_rf (some y5.2), va_rf (some y10.2), va_rf none, va_rf (some y16.2), va_rf (some y21.2)]) := by rw [hy26, hput_at]; rfl
  have w26 : WF G y26 := by rw [hy26]; exact w23.put x23
  have o26 : ∀ b, b < y14.2 → b ≠ X → y26.1 b = y14.1 b := fun b hb hbX => by rw [hy26, hput_ne hbX, hy23, hnew_ne (by omega), hy21, hput_ne hbX, hy18, hnew_ne (by omega), hy16, hput_ne hbX]
  have hk : ∀ b x, y14.1 b = some x → b ≠ X → y26.1 b = some x := fun b x hb hbX => (o26 b (w14.lt hb) hbX).trans hb
  have hls2 : ∀ b x, y14.1 b = some x → isLs x = true → y26.1 b = some x := fun b x hb hx => hk b x hb (fun ee => by rw [ee, x14] at hb; cases hb; cases hx)
  have hcl : Cls y14 y26 := fun b c fs hb => by
    by_cases ee : b = X
    · rw [ee, x14] at hb
      obtain ⟨rfl, -⟩ := ob_inj.mp (Option.some.inj hb)
      exact ⟨_, by rw [ee]; exact x26⟩
    · exact ⟨fs, hk b _ hb ee⟩
  have v26 : V G y26 D := v14.1.step w26 hls2 hcl
  have kf : KF y14 D y26 D := KF.step hls2 (fun a xs hd => v14.1.cell hd)
  have kb : Kb y14 y26 := fun b x hb hx => hk b x hb (fun ee => by rw [ee, x14] at hb; cases hb; cases hx)
  have hE : EX G y14 D (De (fun l => if l = y5.2 then (1, 0) else (0, 0)) D) y10.2 E0 g := p14.ex0 gN gC gX (fun l xs hd hk5 => by
    unfold De
    have : l ≠ y5.2 := fun ee => by have := (dK y5.2 (by omega)).2; rw [ee] at hk5; omega
    show (if (if l = y5.2 then ((1, 0) : Nat × Nat) else (0, 0)) = (0, 0) then D l else none) = some xs
    rw [if_neg this, if_pos rfl]
    exact hd)
  have t26 : y26.1 y.2 = some (ai 3 936 (fun _ => 0)) := (o26 _ (by omega) (by omega)).trans t14
  have e26 : y26.1 y10.2 = y14.1 y10.2 := o26 _ (by omega) (by omega)
  have s18 : y18.1 y16.2 = some (ob 2 [va_rf none, va_rf none, .int 0, .int 0, .int 0, va_rf none, .int 0, .long 0]) := by rw [hy18, hnew_at]
  have s26 : y26.1 y16.2 = some (ob 2 [va_rf none, va_rf none, .int 0, .int 0, .int 0, va_rf none, .int 0, .long 0]) := by rw [hy26, hput_ne (by omega), hy23, hnew_ne (by omega), hy21, hput_ne (by omega)]; exact s18
  have r26 : y26.1 y21.2 = some (ob 2 [va_rf none, va_rf none, .int 0, .int 0, .int 0, va_rf none, .int 0, .long 0]) := by rw [hy26, hput_ne (by omega), hy23, hnew_at]
  refine hp y26 ⟨(D, (fun l => if l = y5.2 then (1, 0) else (0, 0)), (y.2, y5.2, y16.2, y21.2), (y10.2, g), none, ([], fun _ => 0, fun _ => 0), fun _ => 0), v26, ⟨x26, t26, Nat.zero_le _, fun b hb => (by cases hb), fun j hj => absurd hj (Nat.not_lt_zero _)⟩, ⟨hls, ?_, rfl, Nat.zero_le _, List.nodup_nil, fun k a => absurd a (Nat.not_lt_zero _)⟩, hE.kb kb e26 kf, Or.inl ⟨rfl, rfl⟩, ⟨_, _, _, _, _, _, _, _, s26⟩, ⟨_, _, _, _, _, _, _, _, r26⟩, ?_⟩
  · show (if y5.2 = y5.2 then (1, 0) else (0, 0)) = ((1, 0) : Nat × Nat)
    rw [if_pos rfl]
  · show y16.2 ≠ y21.2
    omega
