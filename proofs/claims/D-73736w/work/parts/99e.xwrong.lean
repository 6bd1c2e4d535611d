/-! The component's reader: what is wrong -/
set_option maxRecDepth 100000
theorem xl_init6 {G : GP} {y : HS} {q : Nat} {v0 v1 v2 v3 v4 v5 v6 : Value} {post : HS → Prop} (hw : WF G y) (hq : y.1 q = some (ob 6 [v0, v1, v2, v3, v4, v5, v6])) (hp : ∀ y' w0 w1 w2 w3 w4 w5, WF G y' → y'.1 q = some (ob 6 [w0, w1, w2, w3, w4, w5, v6]) → (∀ a, a ≠ q → y'.1 a = y.1 a) → y'.2 = y.2 → post y') : wp_J16_init_r6 G post y q none none false false := by
  refine ⟨_, hq, by show 0 < 7; omega, fun y1 hy1 => ?_⟩
  have q1 : y1.1 q = some (ob 6 [va_rf (some q), v1, v2, v3, v4, v5, v6]) := by rw [hy1, hput_at]; rfl
  refine ⟨_, q1, by show 1 < 7; omega, fun y3 hy3 => ?_⟩
  have q3 : y3.1 q = some (ob 6 [va_rf (some q), va_rf (gS G 1), v2, v3, v4, v5, v6]) := by rw [hy3, hput_at]; rfl
  refine ⟨_, q3, by show 2 < 7; omega, fun y5 hy5 => ?_⟩
  have q5 : y5.1 q = some (ob 6 [va_rf (some q), va_rf (gS G 1), va_rf (gS G 2), v3, v4, v5, v6]) := by rw [hy5, hput_at]; rfl
  refine ⟨fun _ => ⟨_, q5, by show 1 < 7; omega, fun y8 hy8 => ?_⟩, fun z => (by cases z)⟩
  have q8 : y8.1 q = some (ob 6 [va_rf (some q), va_rf none, va_rf (gS G 2), v3, v4, v5, v6]) := by rw [hy8, hput_at]; rfl
  refine ⟨_, q8, by show 3 < 7; omega, fun y10 hy10 => ?_⟩
  have q10 : y10.1 q = some (ob 6 [va_rf (some q), va_rf none, va_rf (gS G 2), va_rf none, v4, v5, v6]) := by rw [hy10, hput_at]; rfl
  refine ⟨_, q10, by show 0 < 7; omega, fun y12 hy12 => ?_⟩
  have q12 : y12.1 q = some (ob 6 [va_rf none, va_rf none, va_rf (gS G 2), va_rf none, v4, v5, v6]) := by rw [hy12, hput_at]; rfl
  refine ⟨fun z => (by cases z), fun _ => ⟨_, q12, by show 2 < 7; omega, fun y15 hy15 => ?_⟩⟩
  have q15 : y15.1 q = some (ob 6 [va_rf none, va_rf none, va_rf none, va_rf none, v4, v5, v6]) := by rw [hy15, hput_at]; rfl
  refine hp y15 _ _ _ _ _ _ ?_ q15 (fun a ha => ?_) ?_
  · rw [hy15]; refine WF.put ?_ q12
    rw [hy12]; refine WF.put ?_ q10
    rw [hy10]; refine WF.put ?_ q8
    rw [hy8]; refine WF.put ?_ q5
    rw [hy5]; refine WF.put ?_ q3
    rw [hy3]; refine WF.put ?_ q1
    rw [hy1]; exact hw.put hq
  · rw [hy15, hput_ne ha, hy12, hput_ne ha, hy10, hput_ne ha, hy8, hput_ne ha, hy5, hput_ne ha, hy3, hput_ne ha, hy1, hput_ne ha]
  · rw [hy15, hy12, hy10, hy8, hy5, hy3, hy1]; rfl
/-- a Wrong at q that tells f -/
def wrX (y : HS) (q f : Nat) : Prop := ∃ w0 w1 w2 w3 w4 w5, y.1 q = some (ob 6 [w0, w1, w2, w3, w4, w5, .int (nI f)])
theorem xl_wrongO {G : GP} {y : HS} {R B k at_ : Nat} {fs : List Value} {post : Option Nat → HS → Prop} (hw : WF G y) (hR : y.1 R = some (ob 4 fs)) (h3 : fs[3]? = some (.int (nI at_))) (hB : 1 ≤ B) (hp : ∀ y', WF G y' → wrX y' y.2 (8 * at_ + k) → (∀ a, a < y.2 → y'.1 a = y.1 a) → y.2 ≤ y'.2 → post (some y.2) y') : wp_X6_wrong G B post y R (nI k) := by
  have lR := hw.lt hR
  refine ⟨by omega, ?_⟩
  rintro a2 rfl y1 hy1
  have w1 : WF G y1 := by rw [hy1]; exact hw.new
  have q1 : y1.1 y.2 = some (ob 6 [va_rf none, va_rf none, va_rf none, va_rf none, va_rf none, .int 0, .int 0]) := by rw [hy1, hnew_at]
  refine ⟨nI at_, ⟨fs, by rw [hy1, hnew_ne (by omega)]; exact hR, h3⟩, xl_init6 w1 q1 (fun y2 a0 a1 a2 a3 a4 a5 w2 q2 f2 n2 => ⟨_, q2, by show 6 < 7; omega, fun y4 hy4 => ?_⟩)⟩
  refine hp y4 ?_ ⟨a0, a1, a2, a3, a4, a5, ?_⟩ (fun a ha => ?_) ?_
  · rw [hy4]; exact w2.put q2
  · rw [hy4, hput_at, nI_mul, nI_add]; rfl
  · rw [hy4, hput_ne (by omega), f2 a (by omega), hy1, hnew_ne (by omega)]
  · rw [hy4, hput_2, n2, hy1, hnew_2]; omega
/-- what lies below n0 is as it was -/
def OLD (y0 : HS) (n0 : Nat) (y : HS) : Prop := ∀ a, a < n0 → y.1 a = y0.1 a
theorem OLD.st {y0 y y' : HS} {n0 : Nat} (h : OLD y0 n0 y) (hf : ∀ a, a < n0 → y'.1 a = y.1 a) : OLD y0 n0 y' := fun a ha => (hf a ha).trans (h a ha)
/-- what stands after a fault: the Wrong, the Reader's lines; all below n0 as it was -/
def XF (G : GP) (R ln f n0 : Nat) (y0 : HS) (ec q : Nat) (y : HS) : Prop := ec = 6 ∧ WF G y ∧ wrX y q f ∧ (∃ fs, y.1 R = some (ob 4 fs) ∧ fs[7]? = some (.int (nI ln)) ∧ fs.length = 10) ∧ OLD y0 n0 y ∧ n0 ≤ y.2
theorem xl_wrong {G : GP} {y y0 : HS} {R e X tp op ln B k n0 : Nat} {ch : Option Nat} {bs : List Nat} {s : PS} {post : Option Nat → HS → Prop} (h : XL G n0 y R e X tp op ln ch bs s.1) (ho : OLD y0 n0 y) (hn : n0 ≤ y.2) (hB : 1 ≤ B) (hp : ∀ q y', XF G R ln (8 * pAt s + k) n0 y0 6 q y' → post (some q) y') : wp_X6_wrong G B post y R (nI k) := by
  obtain ⟨hw, ht, h1, h2, h3, tok, h4, h5, h6⟩ := h
  have lR := hw.lt h4
  refine xl_wrongO hw h4 rfl hB (fun y' w' x' f' n' => hp _ y' ⟨rfl, w', x', ⟨_, (f' R lR).trans h4, rfl, rfl⟩, ho.st (fun a ha => f' a (by omega)), by omega⟩)
theorem xl_must {G : GP} {y y0 : HS} {R e X tp op ln B k n0 : Nat} {ch : Option Nat} {bs : List Nat} {s : PS} {b : Bool} {post : HS → Prop} {xp : Nat → Nat → HS → Prop} (h : XL G n0 y R e X tp op ln ch bs s.1) (ho : OLD y0 n0 y) (hn : n0 ≤ y.2) (hB : b = false → 1 ≤ B) (hp : b = true → post y) (hx : b = false → ∀ q y', XF G R ln (8 * pAt s + k) n0 y0 6 q y' → xp 6 q y') : wp_X6_must G B post xp y R b (nI k) := by
  refine ⟨hp, fun hb => ⟨h.rd, 1, by have := hB hb; omega, xl_wrong h ho hn (Nat.le_refl _) (fun q y' hF => ⟨q, rfl, ?_⟩)⟩⟩
  obtain ⟨w0, w1, w2, w3, w4, w5, hq⟩ := hF.2.2.1
  exact ⟨_, hq, hx hb q y' hF⟩
