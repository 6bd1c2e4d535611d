/-! The component's reader: a StringBuilder -/
set_option maxRecDepth 100000
def sbR (y : HS) (b v : Nat) (bs : List Nat) : Prop := y.1 b = some (ob 19 [va_rf (some v), .int 0, .int 0, .int (nI bs.length)]) ∧ b ≠ v ∧ (∃ g, y.1 v = some (ai 3 16 g) ∧ ∀ j (h : j < bs.length), g j = nI bs[j]) ∧ bs.length ≤ 9 ∧ ∀ c ∈ bs, c < 128
theorem sb_init {G : GP} {y : HS} {b B : Nat} {post : HS → Prop} (hw : WF G y) (hb : y.1 b = some (ob 19 [va_rf none, .int 0, .int 0, .int 0])) (hB : 1 ≤ B) (hp : ∀ y', WF G y' → sbR y' b y.2 [] → y'.2 = y.2 + 1 → (∀ a, a ≠ b → a < y.2 → y'.1 a = y.1 a) → post y') : wp_J4_init G B post y b := by
  have hlt := hw.lt hb
  refine ⟨1, by omega, fun z => absurd z (by decide), fun _ => ⟨16, rfl, by decide, by decide, ?_⟩⟩
  rintro a3 rfl y2 hy2
  have hb2 : y2.1 b = some (ob 19 [va_rf none, .int 0, .int 0, .int 0]) := by rw [hy2, hnew_ne (by omega)]; exact hb
  refine ⟨_, hb2, by decide, fun y5 hy5 => ?_⟩
  have hb5 : y5.1 b = some (ob 19 [va_rf (some y.2), .int 0, .int 0, .int 0]) := by rw [hy5, hput_at]; rfl
  refine ⟨_, hb5, by show 1 < 4; omega, fun y7 hy7 => ?_⟩
  have hb7 : y7.1 b = some (ob 19 [va_rf (some y.2), .int 0, .int 0, .int 0]) := by rw [hy7, hput_at]; rfl
  have hv : y7.1 y.2 = some (ai 3 16 (fun _ => 0)) := by rw [hy7, hput_ne (by omega), hy5, hput_ne (by omega), hy2, hnew_at]
  refine hp y7 ?_ ⟨hb7, by omega, ⟨_, hv, fun j hj => (by cases hj)⟩, by decide, fun c hc => (by cases hc)⟩ ?_ (fun a h1 h2 => ?_)
  · rw [hy7]
    refine WF.put ?_ hb5
    rw [hy5]
    refine WF.put ?_ hb2
    rw [hy2]
    exact hw.new
  · rw [hy7, hy5, hy2]; rfl
  · rw [hy7, hput_ne h1, hy5, hput_ne h1, hy2, hnew_ne (by omega)]
theorem sb_length {G : GP} {y : HS} {b v : Nat} {bs : List Nat} {post : Int32 → HS → Prop} (h : sbR y b v bs) (hp : post (nI bs.length) y) : wp_J4_length G post y b := ⟨⟨_, Or.inl h.1⟩, _, ⟨_, h.1, rfl⟩, hp⟩
theorem bnar : ∀ c, c < 128 → vp_nar .byte (nI c).toInt8.toInt32 = nI c := by decide +kernel
theorem sb_append {G : GP} {y : HS} {b v c : Nat} {bs : List Nat} {post : Option Nat → HS → Prop} (hw : WF G y) (h : sbR y b v bs) (hl : bs.length < 9) (hc : c < 128) (hp : ∀ y', WF G y' → sbR y' b v (bs ++ [c]) → y'.2 = y.2 → (∀ a, a ≠ b → a ≠ v → y'.1 a = y.1 a) → post (some b) y') : wp_J4_append G post y b (nI c) := by
  obtain ⟨h1, h2, ⟨g, h3, h4⟩, h5, h6⟩ := h
  refine ⟨⟨_, Or.inl h1⟩, fun _ => False, fun _ z => z.elim, _, ⟨_, h1, rfl⟩, ⟨_, Or.inl h1⟩, _, ⟨_, h1, rfl⟩, v, rfl, _, _, Or.inl h3, _, ⟨_, h1, rfl⟩, fun x6 hx6 => ?_⟩
  have e6 : x6 = nI 16 := by rw [hx6]; decide
  rw [e6, nI_add]
  have hneg : nI (bs.length + 1) - nI 16 ≤ 0 := by
    have : ∀ k, k ≤ 9 → nI (k + 1) - nI 16 ≤ 0 := by decide
    exact this _ h5
  refine ⟨fun _ => ⟨⟨_, Or.inl h1⟩, fun z => absurd z (by decide), fun _ => ⟨_, ⟨_, h1, rfl⟩, fun z => absurd rfl z, fun _ => ⟨fun z => (by cases z), fun _ => ⟨fun z => ?_, fun _ => ⟨fun z => (by cases z), fun _ => ⟨_, ⟨_, h1, rfl⟩, _, ⟨_, h1, rfl⟩, _, h1, by show 3 < 4; omega, fun y24 hy24 => ⟨v, rfl, 16, g, ?_, ?_, fun y28 hy28 => ?_⟩⟩⟩⟩⟩⟩⟩, fun z => absurd hneg z⟩
  · exact absurd ((nI_ltI (by omega) (by omega)).mp z) (by omega)
  · rw [hy24, hput_ne (fun z => h2 z.symm)]; exact h3
  · exact vp_inN (by omega) (by omega)
  · rw [nI_clamp (by omega), bnar c hc] at hy28
    have hb24 : y24.1 b = some (ob 19 [va_rf (some v), .int 0, .int 0, .int (nI (bs.length + 1))]) := by
      rw [hy24, hput_at, nI_add]
      rfl
    have hv24 : y24.1 v = some (ai 3 16 g) := by rw [hy24, hput_ne (fun z => h2 z.symm)]; exact h3
    refine hp y28 ?_ ⟨?_, h2, ⟨upd g bs.length (nI c), ?_, fun j hj => ?_⟩, by rw [List.length_append, List.length_singleton]; omega, fun x hx => ?_⟩ ?_ (fun a u1 u2 => ?_)
    · rw [hy28]
      refine WF.put ?_ hv24
      rw [hy24]
      exact hw.put h1
    · rw [hy28, hput_ne h2, hb24, List.length_append]
      rfl
    · rw [hy28, hput_at]
    · rw [List.length_append, List.length_singleton] at hj
      unfold upd
      by_cases e : j = bs.length
      · subst e
        rw [if_pos rfl]
        simp only [List.getElem_append_right (Nat.le_refl _), Nat.sub_self, List.getElem_singleton]
      · rw [if_neg e, List.getElem_append_left (by omega)]
        exact h4 j (by omega)
    · rcases List.mem_append.mp hx with y | y
      · exact h6 x y
      · rw [List.mem_singleton.mp y]; exact hc
    · rw [hy28, hy24]; rfl
    · rw [hy28, hput_ne u2, hy24, hput_ne u1]
theorem chv : ∀ c, c < 128 → ((nI c &&& nI 255).toUInt32 % 65536).toInt32 = nI c ∧ narrow .char (.int (nI c)) = .int (nI c) ∧ fits .byte (.int (nI c)) = true := by decide +kernel
theorem sb_charAt {G : GP} {y : HS} {b v i : Nat} {bs : List Nat} {post : Int32 → HS → Prop} (h : sbR y b v bs) (hi : i < bs.length) (hp : post (nI bs[i]) y) : wp_J4_charAt G post y b (nI i) := by
  obtain ⟨h1, h2, ⟨g, h3, h4⟩, h5, h6⟩ := h
  obtain ⟨c1, c2, c3⟩ := chv bs[i] (h6 _ (List.getElem_mem hi))
  refine ⟨⟨_, Or.inl h1⟩, _, ⟨_, h1, rfl⟩, _, ⟨_, h1, rfl⟩, _, ⟨_, h1, rfl⟩, v, rfl, 16, g, Or.inl h3, fun x7 hx7 => ?_⟩
  have e7 : x7 = nI bs.length := by
    rw [hx7, show nI 16 >>> ((0 : Int32) &&& 31) = nI 16 by decide, if_neg]
    exact fun z => absurd ((nI_ltI (by omega) (by omega)).mp z) (by omega)
  rw [e7]
  refine ⟨fun _ => False, fun _ z => z.elim, fun z => absurd z (nI_pos (by omega)), fun _ => ⟨fun _ => ⟨fun z => absurd rfl z, fun _ => ⟨16, g, Or.inl h3, vp_inN (by omega) (by omega), ?_⟩⟩, fun z => absurd (nI_lt hi (by omega)) z⟩⟩
  rw [nI_clamp (by omega), h4 i hi, c1]
  exact ⟨c2, c2, hp⟩
theorem sb_toString {G : GP} {y : HS} {b v B : Nat} {bs : List Nat} {post : Option Nat → HS → Prop} (hw : WF G y) (h : sbR y b v bs) (hB : 2 ≤ B) (hp : ∀ y' z, WF G y' → y'.1 y.2 = some (ob 20 [va_rf z, .int 0, .int 0, .int 0]) → byR G y' z bs → y'.2 = y.2 + 2 → (∀ a, a < y.2 → y'.1 a = y.1 a) → post (some y.2) y') : wp_J4_toString G B post y b := by
  obtain ⟨h1, h2, ⟨g, h3, h4⟩, h5, h6⟩ := h
  have lb := hw.lt h1
  have lv := hw.lt h3
  refine ⟨by omega, ?_⟩
  rintro a2 rfl y1 hy1
  have w1 : WF G y1 := by rw [hy1]; exact hw.new
  have b1 : y1.1 b = some (ob 19 [va_rf (some v), .int 0, .int 0, .int (nI bs.length)]) := by rw [hy1, hnew_ne (by omega)]; exact h1
  have s1 : y1.1 y.2 = some (ob 20 [va_rf none, .int 0, .int 0, .int 0]) := by rw [hy1, hnew_at]
  have v1 : y1.1 v = some (ai 3 16 g) := by rw [hy1, hnew_ne (by omega)]; exact h3
  have n1 : y1.2 = y.2 + 1 := by rw [hy1]; rfl
  refine ⟨1, by omega, 1, by omega, b, rfl, ⟨_, Or.inl b1⟩, _, ⟨_, b1, rfl⟩, ⟨_, Or.inl b1⟩, ⟨_, Or.inl b1⟩, _, ⟨_, b1, rfl⟩, ⟨_, Or.inl b1⟩, fun z => absurd z (by decide), fun _ => ⟨_, ⟨_, b1, rfl⟩, fun z => absurd rfl z, fun _ => ⟨fun z => (by cases z), fun _ => ⟨_, s1, by show 1 < 4; omega, fun y27 hy27 => ?_⟩⟩⟩⟩
  have w27 : WF G y27 := by rw [hy27]; exact w1.put s1
  have s27 : y27.1 y.2 = some (ob 20 [va_rf none, .int 0, .int 0, .int 0]) := by rw [hy27, hput_at]; rfl
  have v27 : y27.1 v = some (ai 3 16 g) := by rw [hy27, hput_ne (by omega)]; exact v1
  have n27 : y27.2 = y.2 + 1 := by rw [hy27]; exact n1
  refine ⟨1, by omega, fun y3 u4 => y3 = y27 ∧ u4 = 0, ?_, fun z => absurd rfl z, fun _ => ⟨v, rfl, 16, g, Or.inl v27, fun z => absurd ((nI_eq (by omega) (by omega)).mp z) (by omega), fun _ => ⟨rfl, rfl⟩⟩⟩
  rintro y3 u4 ⟨rfl, rfl⟩
  refine ⟨by omega, 1, by omega, fun _ => ?_, fun z => absurd (nI_le (Nat.zero_le _) (by omega)) z⟩
  intro x2 hx2
  have e2 : x2 = nI bs.length := by rw [hx2, nI_sub (Nat.zero_le _)]; rfl
  refine ⟨bs.length, e2, by omega, by omega, ?_⟩
  rintro a4 rfl y4 hy4
  have v4 : y4.1 v = some (ai 3 16 g) := by rw [hy4, hnew_ne (by omega)]; exact v27
  have q4 : y4.1 y3.2 = some (ai 3 bs.length (fun _ => 0)) := by rw [hy4, hnew_at]
  have hif : (if x2 < (nI 16 - nI 0) then x2 else (nI 16 - nI 0)) = nI bs.length := by
    rw [e2, show nI 16 - nI 0 = nI 16 by decide, if_pos]
    exact nI_lt (by omega) (by omega)
  refine ⟨v, rfl, 16, g, Or.inl v4, 16, bs.length, bs.length, 0, 0, g, _, ⟨hif, rfl, rfl⟩, v4, q4, by omega, by omega, by omega, by omega, fun i hi => ?_, fun y16 hy16 => ?_⟩
  · rw [Nat.zero_add, h4 i hi]
    exact (chv _ (h6 _ (List.getElem_mem hi))).2.2
  · have w4 : WF G y4 := by rw [hy4]; exact w27.new
    have w16 : WF G y16 := by rw [hy16]; exact w4.put q4
    have s16 : y16.1 y.2 = some (ob 20 [va_rf none, .int 0, .int 0, .int 0]) := by rw [hy16, hput_ne (by omega), hy4, hnew_ne (by omega)]; exact s27
    refine ⟨_, s16, by show 0 < 4; omega, fun y21 hy21 => ?_⟩
    have s21 : y21.1 y.2 = some (ob 20 [va_rf (some y3.2), .int 0, .int 0, .int 0]) := by rw [hy21, hput_at]; rfl
    refine hp y21 _ ?_ s21 ⟨y3.2, va_cpy g (fun _ => 0) 0 0 bs.length, rfl, Or.inl ?_, by omega, h6, fun j hj => ?_⟩ ?_ (fun a ha => ?_)
    · rw [hy21]; exact w16.put s16
    · rw [hy21, hput_ne (by omega), hy16, hput_at]
    · show va_cpy g (fun _ => 0) 0 0 bs.length j = _
      unfold va_cpy
      rw [if_pos ⟨Nat.zero_le _, by omega⟩, Nat.zero_add, Nat.sub_zero]
      exact h4 j hj
    · rw [hy21, hput_2, hy16, hput_2, hy4, hnew_2]; omega
    · rw [hy21, hput_ne (by omega), hy16, hput_ne (by omega), hy4, hnew_ne (by omega), hy27, hput_ne (by omega), hy1, hnew_ne (by omega)]
