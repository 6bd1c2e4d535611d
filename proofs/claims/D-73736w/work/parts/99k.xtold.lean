/-! The component's reader: a String's hash -/
set_option maxRecDepth 100000
theorem xl_hash {G : GP} {y : HS} {q : Nat} {z : Option Nat} {w : List Nat} {h zz : Int32} {post : Int32 → HS → Prop} (hw : WF G y) (hs : y.1 q = some (ob 20 [va_rf z, .int 0, .int h, .int zz])) (hb : byR G y z w) (hh : (h = 0 ∨ h = hsh w) ∧ (zz = 0 ∨ hsh w = 0)) (hp : ∀ y' zz', WF G y' → y'.1 q = some (ob 20 [va_rf z, .int 0, .int (hsh w), .int zz']) → (zz' = 0 ∨ hsh w = 0) → (h ≠ 0 → zz' = zz) → (∀ a, a ≠ q → y'.1 a = y.1 a) → y'.2 = y.2 → post (hsh w) y') : wp_J5_hashCode G post y q := by
  refine ⟨h, ⟨_, Or.inl hs, rfl⟩, fun z0 => ?_, fun z0 => ⟨zz, ⟨_, Or.inl hs, rfl⟩, fun z1 => ?_, fun z1 => ⟨⟨_, Or.inl hs⟩, fun z2 => absurd z2 (by decide), fun _ => ⟨0, ⟨_, Or.inl hs, rfl⟩, fun z2 => absurd rfl z2, fun _ => ⟨fun z2 => (by cases z2), fun _ => ⟨_, ⟨_, Or.inl hs, rfl⟩, xl_bhash hb ⟨fun z2 => ?_, fun z2 => ?_⟩⟩⟩⟩⟩⟩⟩
  · have e : h = hsh w := by
      rcases hh.1 with v | v
      · exact absurd v z0
      · exact v
    subst e
    exact hp y zz hw hs hh.2 (fun _ => rfl) (fun _ _ => rfl) rfl
  · have e : hsh w = 0 := by
      rcases hh.2 with v | v
      · exact absurd v z1
      · exact v
    have e2 : h = hsh w := z0.trans e.symm
    subst e2
    exact hp y zz hw hs hh.2 (fun _ => rfl) (fun _ _ => rfl) rfl
  · refine ⟨_, hs, by show 2 < 4; omega, fun y14 hy14 => hp y14 zz ?_ ?_ (Or.inl z1) (fun _ => rfl) (fun a ha => ?_) ?_⟩
    · rw [hy14]; exact hw.put hs
    · rw [hy14, hput_at]; rfl
    · rw [hy14, hput_ne ha]
    · rw [hy14]; rfl
  · refine ⟨_, hs, by show 3 < 4; omega, fun y16 hy16 => hp y16 (nI 1) ?_ ?_ (Or.inr z2) (fun hne => absurd z0 hne) (fun a ha => ?_) ?_⟩
    · rw [hy16]; exact hw.put hs
    · rw [hy16, hput_at, z2, z0]; rfl
    · rw [hy16, hput_ne ha]
    · rw [hy16]; rfl
