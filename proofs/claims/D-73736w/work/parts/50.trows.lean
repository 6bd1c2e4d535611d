/-! The model's side: rows of ints, stays -/
set_option maxRecDepth 100000
theorem nI_mul (a b : Nat) : nI a * nI b = nI (a * b) := (Int32.ofNat_mul a b).symm
theorem nI_dec (k : Nat) : nI (k + 1) + (-1) = nI k := by
  rw [← Int32.sub_eq_add_neg]
  exact nI_pred k
theorem tsp_within {σ : TS} {v lo hi : Int32} {post : Bool → TS → Prop} (hp : post (wthn v lo hi) σ) : wp_within post σ v lo hi := by
  refine ⟨fun h => ?_, fun h => ⟨fun h2 => ?_, fun h2 => ?_⟩⟩ <;> simpa [wthn, h, *] using hp
/-- a row of ints of the model: from place b on it holds xs -/
def rw9 (σ : TS) (k0 b : Nat) (xs : List Int32) : Prop := ∀ j (h : j < xs.length), sf σ k0 (b + j) = xs[j]
def plcI (xs : List Int32) (v : Int32) : Int32 := if xs.idxOf v < xs.length then nI (xs.idxOf v) else -1
theorem plcI_no {xs : List Int32} {v : Int32} (h : ∀ j (hj : j < xs.length), ¬ xs[j] = v) : plcI xs v = -1 := by
  have : ¬ xs.idxOf v < xs.length := fun z => h _ z (List.getElem_idxOf z)
  rw [plcI, if_neg this]
theorem plcI_at {xs : List Int32} {v : Int32} {k : Nat} (hk : k < xs.length) (h : ∀ j (hj : j < xs.length), j < k → ¬ xs[j] = v) (e : xs[k] = v) : plcI xs v = nI k := by
  have h1 := idx_at hk (fun j hj hjk z => h j hj hjk z.symm) e.symm
  rw [plcI, h1, if_pos hk]
theorem plcI_neg {xs : List Int32} {v : Int32} (hl : xs.length < 1000) : plcI xs v < 0 ↔ v ∉ xs := by
  unfold plcI
  by_cases h : xs.idxOf v < xs.length
  · rw [if_pos h]
    exact ⟨fun z => absurd z (nI_pos (by omega)), fun z => absurd (List.idxOf_lt_length_iff.mp h) z⟩
  · rw [if_neg h]
    exact ⟨fun _ z => h (List.idxOf_lt_length_iff.mpr z), fun _ => by decide⟩
theorem tsp_find {σ : TS} {k0 b : Nat} {xs : List Int32} {v : Int32} {post : Int32 → TS → Prop} (hk : tai k0 = true) (ht : tlen k0 ≤ 2000) (hl : b + xs.length ≤ tlen k0) (hx : rw9 σ k0 b xs) (hp : post (plcI xs v) σ) : wp_find post σ k0 (nI b) (nI xs.length) v := by
  refine ⟨fun n z x => z = σ ∧ ∃ k, x = nI k ∧ k ≤ xs.length ∧ n = xs.length - k ∧ ∀ j (hj : j < xs.length), j < k → ¬ xs[j] = v, ⟨_, rfl, 0, rfl, Nat.zero_le _, rfl, fun j _ h => absurd h (Nat.not_lt_zero _)⟩, ?_⟩
  rintro n z x ⟨rfl, k, rfl, hk', rfl, hno⟩
  refine ⟨fun hge => ?_, fun hlt => ?_⟩
  · have hkl := nle_of (by omega) hk' hge
    rw [plcI_no (fun j hj => hno j hj (by omega))] at hp
    exact hp
  · have hk2 := nlt_of (by omega) hk' hlt
    rw [nI_add b k, nI_clamp (show b + k < 2 ^ 31 by omega), hx k hk2]
    refine ⟨hk, vp_inN (by omega) (by omega), fun hne => ⟨xs.length - (k + 1), by omega, rfl, k + 1, by rw [nI_add], by omega, rfl, fun j hj hjk => ?_⟩, fun he => ?_⟩
    · by_cases hjk2 : j = k
      · subst hjk2; exact hne
      · exact hno j hj (by omega)
    · rw [plcI_at hk2 hno he] at hp
      exact hp
/-- ascending -/
def asc (xs : List Int32) : Prop := xs.Pairwise (fun a b => a < b)
theorem asc_lt {xs : List Int32} (h : asc xs) {i j : Nat} (hi : i < xs.length) (hj : j < xs.length) (hij : i < j) : xs[i] < xs[j] := (List.pairwise_iff_getElem.mp h) i j hi hj hij
/-- only a stretch of a row is another -/
def S1 (σ σ' : TS) (k0 b n : Nat) : Prop := (∀ k, sx σ' k = sx σ k) ∧ sw σ' = sw σ ∧ (∀ a j, sg σ' a j = sg σ a j) ∧ ∀ a j, (a ≠ k0 ∨ j < b ∨ b + n ≤ j) → sf σ' a j = sf σ a j
theorem S1.rf (σ : TS) (k0 b n : Nat) : S1 σ σ k0 b n := ⟨fun _ => rfl, rfl, fun _ _ => rfl, fun _ _ _ => rfl⟩
theorem S1.put {σ σ' : TS} {k0 b n i : Nat} {v : Int32} (h : S1 σ σ' k0 b n) (h1 : b ≤ i) (h2 : i < b + n) : S1 σ (uf σ' k0 i v) k0 b n := by
  refine ⟨fun k => h.1 k, h.2.1, fun a j => h.2.2.1 a j, fun a j hj => ?_⟩
  rw [sf_uf, if_neg (by omega)]
  exact h.2.2.2 a j hj
/-- one is put in, from the right -/
theorem tsp_comes {σ : TS} {k0 b : Nat} {xs : List Int32} {v : Int32} {post : TS → Prop} (hk : tai k0 = true) (ht : tlen k0 ≤ 2000) (hl : b + xs.length < tlen k0) (hx : rw9 σ k0 b xs) (ha : asc xs) (hv : v ∉ xs)
    (hp : ∀ σ', S1 σ σ' k0 b (xs.length + 1) → rw9 σ' k0 b (xs.insertIdx (insP xs v) v) → post σ') : wp_comes post σ k0 (nI b) (nI xs.length) v := by
  have hfin : ∀ (z : TS) (k : Nat), k ≤ xs.length → S1 σ z k0 b (xs.length + 1) → (∀ j (hj : j < xs.length), j < k → sf z k0 (b + j) = xs[j]) → (∀ j (hj : j < xs.length), k ≤ j → sf z k0 (b + j + 1) = xs[j]) → (∀ j (hj : j < xs.length), k ≤ j → v < xs[j]) → (∀ j (hj : j < xs.length), j < k → xs[j] < v) → post (uf z k0 (b + k) v) := by
    intro z k hk2 hS h1 h2 h3 h4
    have hi : insP xs v = k := insP_at hk2 h4 (fun hj => Int32.not_lt.mpr (Int32.le_of_lt (h3 k hj (Nat.le_refl _))))
    refine hp _ (hS.put (by omega) (by omega)) ?_
    rw [hi]
    intro j hj
    rw [List.length_insertIdx_of_le_length hk2] at hj
    rw [sf_uf]
    by_cases e : j = k
    · subst e
      rw [if_pos ⟨rfl, rfl⟩, List.getElem_insertIdx_self]
    · rw [if_neg (by omega)]
      rcases Nat.lt_or_ge j k with z1 | z1
      · rw [List.getElem_insertIdx_of_lt z1]
        exact h1 j (by omega) z1
      · have hj1 : 0 < j := by omega
        rw [List.getElem_insertIdx_of_gt (by omega)]
        have := h2 (j - 1) (by omega) (by omega)
        rw [show b + (j - 1) + 1 = b + j by omega] at this
        exact this
  refine ⟨fun n z x => ∃ k, x = nI k ∧ n = k ∧ k ≤ xs.length ∧ S1 σ z k0 b (xs.length + 1) ∧ (∀ j (hj : j < xs.length), j < k → sf z k0 (b + j) = xs[j]) ∧ (∀ j (hj : j < xs.length), k ≤ j → sf z k0 (b + j + 1) = xs[j]) ∧ ∀ j (hj : j < xs.length), k ≤ j → v < xs[j], ⟨_, _, rfl, rfl, Nat.le_refl _, S1.rf _ _ _ _, fun j hj _ => hx j hj, fun j hj h => absurd hj (by omega), fun j hj h => absurd hj (by omega)⟩, ?_⟩
  rintro k z x ⟨k9, rfl, rfl, hk2, hS, h1, h2, h3⟩
  refine ⟨fun h0 => ?_, fun h0 => ?_⟩
  · have : k = 0 := by
      rcases Nat.eq_zero_or_pos k with e | e
      · exact e
      · exact absurd h0 (nI_nle e (by omega))
    subst this
    rw [nI_add, nI_clamp (by omega)]
    refine ⟨hk, vp_inN (by omega) (by omega), fun z9 hz => ?_⟩
    rw [hz]
    exact hfin z 0 hk2 hS h1 h2 h3 (fun j hj h => absurd h (Nat.not_lt_zero _))
  · have hpos : 0 < k := by
      rcases Nat.eq_zero_or_pos k with e | e
      · subst e; exact absurd (by decide) h0
      · exact e
    obtain ⟨k, rfl⟩ : ∃ k', k = k' + 1 := ⟨k - 1, by omega⟩
    rw [nI_add b (k + 1), nI_sub (show 1 ≤ b + (k + 1) by omega), nI_clamp (show b + (k + 1) < 2 ^ 31 by omega), nI_clamp (show b + (k + 1) - 1 < 2 ^ 31 by omega), show b + (k + 1) - 1 = b + k by omega, h1 k (by omega) (by omega)]
    have hne : xs[k] ≠ v := fun e => hv (e ▸ List.getElem_mem _)
    refine ⟨hk, vp_inN (by omega) (by omega), fun hle => ⟨hk, vp_inN (by omega) (by omega), fun z9 hz => ?_⟩, fun hle => ⟨hk, vp_inN (by omega) (by omega), hk, vp_inN (by omega) (by omega), fun z9 hz => ⟨k, by omega, k, ?_, rfl, by omega, ?_, ?_, ?_, ?_⟩⟩⟩
    · rw [hz]
      refine hfin z (k + 1) hk2 hS h1 h2 h3 (fun j hj hjk => ?_)
      have hkv : xs[k] < v := Int32.lt_of_le_of_ne hle hne
      by_cases e : j = k
      · subst e; exact hkv
      · exact Int32.lt_trans (asc_lt ha hj (by omega) (by omega)) hkv
    · exact nI_dec k
    · rw [hz]; exact hS.put (by omega) (by omega)
    · intro j hj hjk
      rw [hz, sf_uf, if_neg (by omega)]
      exact h1 j hj (by omega)
    · intro j hj hjk
      rw [hz, sf_uf]
      by_cases e : j = k
      · subst e
        rw [if_pos ⟨rfl, by omega⟩]
      · rw [if_neg (by omega)]
        exact h2 j hj (by omega)
    · intro j hj hjk
      by_cases e : j = k
      · subst e; exact Int32.not_le.mp hle
      · exact h3 j hj (by omega)
/-- one is taken out -/
theorem tsp_goes {σ : TS} {k0 b : Nat} {xs : List Int32} {v : Int32} {post : TS → Prop} (hk : tai k0 = true) (ht : tlen k0 ≤ 2000) (hl : b + xs.length ≤ tlen k0) (hx : rw9 σ k0 b xs) (hv : v ∈ xs)
    (hp : ∀ σ', S1 σ σ' k0 b xs.length → rw9 σ' k0 b (xs.eraseIdx (xs.idxOf v)) → post σ') : wp_goes post σ k0 (nI b) (nI xs.length) v := by
  have hi : xs.idxOf v < xs.length := List.idxOf_lt_length_iff.mpr hv
  refine tsp_find hk ht hl hx ?_
  rw [plcI, if_pos hi]
  generalize xs.idxOf v = i at hi hp
  refine ⟨fun n z x => ∃ k, x = nI k ∧ i ≤ k ∧ k < xs.length ∧ n = xs.length - k ∧ S1 σ z k0 b xs.length ∧ (∀ j (hj : j < xs.length), j < i → sf z k0 (b + j) = xs[j]) ∧ (∀ j (hj : j + 1 < xs.length), i ≤ j → j < k → sf z k0 (b + j) = xs[j + 1]) ∧ (∀ j (hj : j < xs.length), k ≤ j → sf z k0 (b + j) = xs[j]), ⟨_, _, rfl, Nat.le_refl _, hi, rfl, S1.rf _ _ _ _, fun j hj _ => hx j hj, fun j hj h1 h2 => absurd h1 (by omega), fun j hj _ => hx j hj⟩, ?_⟩
  rintro n z x ⟨k, rfl, hik, hk2, rfl, hS, h1, h2, h3⟩
  rw [nI_add, nI_add, nI_add]
  refine ⟨fun hge => ?_, fun hlt => ?_⟩
  · have hkl : xs.length ≤ k + 1 := (nI_leI (by omega) (by omega)).mp hge
    refine hp z hS (fun j hj => ?_)
    rw [List.length_eraseIdx_of_lt hi] at hj
    rw [List.getElem_eraseIdx]
    by_cases e : j < i
    · rw [dif_pos e]; exact h1 j (by omega) e
    · rw [dif_neg e]; exact h2 j (by omega) (by omega) (by omega)
  · have hkl : k + 1 < xs.length := by
      rcases Nat.lt_or_ge (k + 1) xs.length with z1 | z1
      · exact z1
      · exact absurd (nI_le z1 (by omega)) hlt
    rw [nI_clamp (show b + k + 1 < 2 ^ 31 by omega), nI_clamp (show b + k < 2 ^ 31 by omega)]
    refine ⟨hk, vp_inN (by omega) (by omega), hk, vp_inN (by omega) (by omega), fun z9 hz => ⟨xs.length - (k + 1), by omega, k + 1, rfl, by omega, hkl, rfl, ?_, ?_, ?_, ?_⟩⟩
    · rw [hz]; exact hS.put (by omega) (by omega)
    · intro j hj hji
      rw [hz, sf_uf, if_neg (by omega)]
      exact h1 j hj hji
    · intro j hj hij hjk
      rw [hz, sf_uf]
      by_cases e : j = k
      · subst e
        rw [if_pos ⟨rfl, rfl⟩]
        have := h3 (j + 1) (by omega) (by omega)
        rw [← Nat.add_assoc] at this
        exact this
      · rw [if_neg (by omega)]
        exact h2 j hj hij (by omega)
    · intro j hj hkj
      rw [hz, sf_uf, if_neg (by omega)]
      exact h3 j hj (by omega)
