/-! The component's reader: hashes, told words, names -/
set_option maxRecDepth 100000
theorem b255 : ∀ c, c < 128 → nI c &&& nI 255 = nI c := by decide +kernel
theorem hsh_snoc (w : List Nat) (c : Nat) : hsh (w ++ [c]) = nI 31 * hsh w + nI c := by
  unfold hsh
  rw [List.foldl_append]
  rfl
theorem xl_bhash {G : GP} {y : HS} {z : Option Nat} {w : List Nat} {post : Int32 → HS → Prop} (h : byR G y z w) (hp : post (hsh w) y) : wp_J10_hashCode G post y z := by
  obtain ⟨q, g, rfl, d, n, c, e⟩ := h
  refine ⟨q, rfl, _, g, d, fun z0 => ?_, fun z0 => ⟨fun z1 => ?_, fun z1 => ?_⟩⟩
  · have hl : w.length = 0 := (nI_eq (by omega) (by omega)).mp z0
    rw [List.length_eq_zero_iff.mp hl] at hp
    exact hp
  · have hl : w.length = 1 := (nI_eq (by omega) (by omega)).mp z1
    obtain ⟨a, rfl⟩ := List.length_eq_one_iff.mp hl
    refine ⟨_, g, d, vp_inN (by rw [hl]; omega) (by rw [hl]; omega), ?_⟩
    have e0 : g (nI 0).toNatClampNeg = nI a := by rw [nI_clamp (by omega)]; exact e 0 (by rw [hl]; omega)
    rw [e0, b255 a (c a (List.mem_singleton.mpr rfl))]
    have : hsh [a] = nI a := by
      show nI 31 * 0 + nI a = nI a
      rw [Int32.mul_zero, Int32.zero_add]
    rw [this] at hp
    exact hp
  · refine ⟨_, g, d, fun _ => ⟨q, rfl, _, g, d, ?_⟩, fun zz => absurd rfl zz⟩
    intro x1 hx1
    have ex1 : x1 = nI w.length := by rw [hx1, nI_add, Nat.zero_add]
    refine ⟨fun n y' x k => ∃ j, j ≤ w.length ∧ n = w.length - j ∧ y' = y ∧ x = hsh (w.take j) ∧ k = nI j, ⟨_, 0, Nat.zero_le _, rfl, rfl, rfl, rfl⟩, ?_⟩
    rintro n3 y4 x7 x8 ⟨j, hj, hn, rfl, hx7, hx8⟩
    rw [ex1, hx8]
    refine ⟨fun zz => ?_, fun zz => ?_⟩
    · have : w.length ≤ j := (nI_leI (by omega) (by omega)).mp zz
      rw [hx7, List.take_of_length_le this]
      exact hp
    · have hlt : j < w.length := by
        rcases Nat.lt_or_ge j w.length with v | v
        · exact v
        · exact absurd (nI_le v (by omega)) zz
      refine ⟨q, rfl, _, g, d, vp_inN hlt (by omega), fun x14 hx14 => ⟨w.length - (j + 1), by omega, j + 1, by omega, rfl, rfl, ?_, nI_add j 1⟩⟩
      rw [hx14, nI_clamp (by omega), e j hlt, b255 _ (c _ (List.getElem_mem hlt)), hx7, take_snoc hlt, hsh_snoc]
