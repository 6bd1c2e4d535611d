/-! Plain laws: words (Strings of one byte a letter) -/
set_option maxRecDepth 100000
/-- the constants' addresses -/
def GK (G : GP) : Prop := (∀ i, i < 20 → gK G i < (gH G).size) ∧ (∀ i j, i < 20 → j < 20 → gK G i = gK G j → i = j) ∧ (∀ i, i < 20 → gV G i < (gH G).size) ∧ ∀ i j, i < 20 → j < 20 → gV G i = gV G j → wd i = wd j
def byR (G : GP) (y : HS) (r : Option Nat) (bs : List Nat) : Prop := ∃ q g, r = some q ∧ rd G y q (ai 3 bs.length g) ∧ bs.length < 100 ∧ (∀ b ∈ bs, b < 128) ∧ ∀ j, (h : j < bs.length) → g j = nI bs[j]
/-- the String at q holds the letters bs, its hash field h -/
def srR (G : GP) (y : HS) (q : Nat) (bs : List Nat) (h : Int32) : Prop := ∃ b, rd G y q (ob 20 [va_rf b, .int 0, .int h, .int 0]) ∧ byR G y b bs
theorem nI_byte {a b : Nat} (ha : a < 128) (hb : b < 128) : nI a = nI b ↔ a = b := nI_eq (by omega) (by omega)
theorem sp_J10_equals {G : GP} {y : HS} {r1 r2 : Option Nat} {b1 b2 : List Nat} {post : Bool → HS → Prop} (h1 : byR G y r1 b1) (h2 : byR G y r2 b2) (hp : post (decide (b1 = b2)) y) : wp_J10_equals G post y r1 r2 := by
  obtain ⟨q1, g1, rfl, d1, n1, c1, e1⟩ := h1
  obtain ⟨q2, g2, rfl, d2, n2, c2, e2⟩ := h2
  refine ⟨q1, rfl, _, g1, d1, q2, rfl, _, g2, d2, fun hne => ?_, fun he => ?_⟩
  · have : ¬ b1 = b2 := fun hh => hne (by rw [hh])
    rw [decide_eq_false this] at hp
    exact hp
  · have hl : b1.length = b2.length := (nI_eq (by omega) (by omega)).mp he
    refine ⟨fun n y' x => y' = y ∧ ∃ k, x = nI k ∧ k ≤ b1.length ∧ n = b1.length - k ∧ ∀ j (hj : j < b1.length) (hj2 : j < b2.length), j < k → b1[j] = b2[j], ⟨_, rfl, 0, rfl, Nat.zero_le _, rfl, fun j _ _ h => absurd h (Nat.not_lt_zero _)⟩, ?_⟩
    rintro n y' x ⟨rfl, k, rfl, hk, rfl, hyes⟩
    refine ⟨_, g1, d1, fun hge => ?_, fun hlt => ?_⟩
    · have hkl := nle_of (by omega) hk hge
      have : b1 = b2 := List.ext_getElem hl (fun j hj hj2 => hyes j hj hj2 (by omega))
      rw [decide_eq_true this] at hp
      exact hp
    · have hk2 := nlt_of (by omega) hk hlt
      refine ⟨_, g1, d1, vp_inN hk2 (by omega), _, g2, d2, vp_inN (by omega) (by omega), ?_⟩
      rw [nI_clamp (by omega), e1 k hk2, e2 k (by omega)]
      have hb := nI_byte (c1 _ (List.getElem_mem hk2)) (c2 _ (List.getElem_mem (show k < b2.length by omega)))
      refine ⟨fun he => ⟨b1.length - (k + 1), by omega, rfl, k + 1, by rw [nI_add], by omega, rfl, fun j hj hj2 hjk => ?_⟩, fun hne => ?_⟩
      · by_cases hjk2 : j = k
        · subst hjk2; exact hb.mp he
        · exact hyes j hj hj2 (by omega)
      · have : ¬ b1 = b2 := fun hh => hne (by subst hh; rfl)
        rw [decide_eq_false this] at hp
        exact hp
theorem srR.of {G : GP} {y : HS} {q : Nat} {bs : List Nat} {h : Int32} (hs : srR G y q bs h) : isOf G y (some q) 20 := fun w hw => by
  cases hw
  obtain ⟨b, h1, -⟩ := hs
  exact ⟨_, h1⟩
theorem sp_J5_equals {G : GP} {y : HS} {q q2 : Nat} {b1 b2 : List Nat} {h1 h2 : Int32} {post : Bool → HS → Prop} (s1 : srR G y q b1 h1) (s2 : srR G y q2 b2 h2) (hid : q = q2 → b1 = b2) (hp : post (decide (b1 = b2)) y) : wp_J5_equals G post y q (some q2) := by
  have hof := s2.of
  obtain ⟨r1, d1, e1⟩ := s1
  obtain ⟨r2, d2, e2⟩ := s2
  refine ⟨fun _ => ⟨true, Or.inr ⟨q2, 20, _, rfl, d2, by decide, Or.inl ⟨rfl, rfl⟩⟩, fun h => (by cases h), fun _ => ⟨fun y6 r7 => y6 = y ∧ r7 = some q2, ?_, hof, fun h => absurd h (by decide), fun _ => ⟨_, ⟨_, d1, rfl⟩, q2, rfl, _, ⟨_, d2, rfl⟩, fun h => absurd rfl h, fun _ => ⟨rfl, rfl⟩⟩⟩⟩, fun he => ?_⟩
  · rintro y6 r7 ⟨rfl, rfl⟩
    refine ⟨_, ⟨_, d1, rfl⟩, q2, rfl, _, ⟨_, d2, rfl⟩, sp_J10_equals e1 e2 ⟨fun hb => ?_, fun hb => ?_⟩⟩ <;> (rw [hb] at hp; exact hp)
  · have := hid (Option.some.inj he)
    rw [decide_eq_true this] at hp
    exact hp
/-- a String whose hash is kept -/
theorem sp_hash {G : GP} {y : HS} {q : Nat} {bs : List Nat} {h : Int32} {post : Int32 → HS → Prop} (hs : srR G y q bs h) (h0 : h ≠ 0) (hp : post h y) : wp_J5_hashCode G post y q := by
  obtain ⟨b, h1, -⟩ := hs
  exact ⟨h, ⟨_, h1, rfl⟩, fun _ => hp, fun z => absurd z h0⟩
theorem srR.con {G : GP} {y : HS} {i : Nat} (hi : i < 20) : srR G y (gK G i) (wd i) (whT.getD i 0) := by
  refine ⟨some (gV G i), Or.inr (Or.inl ⟨i, hi, rfl, rfl⟩), gV G i, _, rfl, Or.inr (Or.inr (Or.inl ⟨i, hi, rfl, rfl⟩)), ?_, ?_, ?_⟩
  · have : ∀ i, i < 20 → (wd i).length < 100 := by decide
    exact this i hi
  · have : ∀ i, i < 20 → ∀ b ∈ wd i, b < 128 := by decide
    exact this i hi
  · intro j hj
    simp [List.getD_eq_getElem?_getD, List.getElem?_eq_getElem hj]
theorem whT_ne : ∀ i, i < 20 → whT.getD i 0 ≠ 0 := by decide +kernel
