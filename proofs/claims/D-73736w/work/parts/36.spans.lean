/-! Plain laws: spans, rows of them -/
set_option maxRecDepth 100000
abbrev Sp : Type := Int32 × Int32
def has (sp : Sp) (c : Int32) : Bool := wthn c sp.1 sp.2
def anyS (sps : List Sp) (c : Int32) : Bool := sps.any (fun sp => has sp c)
def spR (y : HS) (r : Option Nat) (sp : Sp) : Prop := ∃ q, r = some q ∧ y.1 q = some (ob 8 [.int sp.1, .int sp.2])
def spsR (y : HS) (D : LM) (l : Nat) (sps : List Sp) : Prop := ∃ xs, D l = some xs ∧ All2 (spR y) xs sps
theorem spR.kp {y y' : HS} {r : Option Nat} {sp : Sp} (h : spR y r sp) (k : Kp y y') : spR y' r sp := by
  obtain ⟨q, h1, h2⟩ := h
  exact ⟨q, h1, k _ _ h2 rfl⟩
theorem spR.of {G : GP} {y : HS} {r : Option Nat} {sp : Sp} (h : spR y r sp) : isOf G y r 8 := fun w hw => by
  obtain ⟨q, h1, h2⟩ := h
  cases h1.symm.trans hw
  exact ⟨_, Or.inl h2⟩
theorem spR.ok {G : GP} {y : HS} {r : Option Nat} {sp : Sp} (h : spR y r sp) : okO G y r := fun w hw => by
  obtain ⟨q, h1, h2⟩ := h
  cases h1.symm.trans hw
  exact ⟨8, _, by decide, Or.inl h2⟩
theorem sp_has {G : GP} {y : HS} {q : Nat} {sp : Sp} {c : Int32} {post : Bool → HS → Prop} (h : y.1 q = some (ob 8 [.int sp.1, .int sp.2])) (hp : post (has sp c) y) : wp_X10_has G post y q c :=
  ⟨_, ⟨_, h, rfl⟩, _, ⟨_, h, rfl⟩, sp_within hp⟩
theorem nlt_of {k n : Nat} (hn : n < 2 ^ 31) (hk : k ≤ n) (h : ¬ nI n ≤ nI k) : k < n := by
  rcases Nat.lt_or_ge k n with z | z
  · exact z
  · exact absurd (nI_le z (by omega)) h
theorem nle_of {k n : Nat} (hn : n < 2 ^ 31) (hk : k ≤ n) (h : nI n ≤ nI k) : k = n := by
  have := (nI_leI hn (by omega)).mp h
  omega
theorem any_no {α : Type} {xs : List α} {p : α → Bool} (h : ∀ j (hj : j < xs.length), p xs[j] = false) : xs.any p = false := by
  rw [List.any_eq_false]
  intro x hx
  obtain ⟨j, hj, e⟩ := List.getElem_of_mem hx
  rw [← e, h j hj]; exact fun z => by cases z
theorem any_yes {α : Type} {xs : List α} {p : α → Bool} {k : Nat} (hk : k < xs.length) (h : p xs[k] = true) : xs.any p = true := List.any_eq_true.mpr ⟨_, List.getElem_mem hk, h⟩
theorem sp_haveAny {G : GP} {y : HS} {D : LM} {l : Nat} {sps : List Sp} {c : Int32} {post : Bool → HS → Prop} (hv : V G y D) (h : spsR y D l sps) (hp : post (anyS sps c) y) : wp_X1_haveAny G post y (some l) c := by
  obtain ⟨xs, h1, h2⟩ := h
  obtain ⟨fs, hfs⟩ := hv.cell h1
  have hlen := h2.1
  have hl := hv.len h1
  refine ⟨fun n y' x => y' = y ∧ ∃ k, x = nI k ∧ k ≤ xs.length ∧ n = xs.length - k ∧ ∀ j (hj : j < sps.length), j < k → has sps[j] c = false, ⟨_, rfl, 0, rfl, Nat.zero_le _, rfl, fun j _ h => absurd h (Nat.not_lt_zero _)⟩, ?_⟩
  rintro n y' x ⟨rfl, k, rfl, hk, rfl, hno⟩
  refine ⟨l, rfl, ⟨fs, Or.inl hfs⟩, hv.size h1 ⟨fun hge => ?_, fun hlt => ⟨⟨fs, Or.inl hfs⟩, ?_⟩⟩⟩
  · have hkl := nle_of (by omega) hk hge
    have : anyS sps c = false := any_no (fun j hj => hno j hj (by omega))
    rw [this] at hp
    exact hp
  · have hk2 := nlt_of (by omega) hk hlt
    obtain ⟨q, e1, e2⟩ := h2.2 k hk2 (by omega)
    refine hv.get h1 hk2 ⟨(h2.2 k hk2 (by omega)).of, q, e1, ⟨_, Or.inl e2⟩, sp_has e2 ⟨fun hb => ⟨xs.length - (k + 1), by omega, rfl, k + 1, by rw [nI_add], by omega, rfl, fun j hj hjk => ?_⟩, fun hb => ?_⟩⟩
    · by_cases hjk2 : j = k
      · subst hjk2; exact hb
      · exact hno j hj (by omega)
    · have : anyS sps c = true := any_yes (by omega) hb
      rw [this] at hp
      exact hp
theorem sp_hasAny {G : GP} {y : HS} {D : LM} {a l q : Nat} {xs : List (Option Nat)} {vs : List Int32} {sp : Sp} {post : Bool → HS → Prop} (hv : V G y D) (h1 : D l = some xs) (h2 : BX G y xs vs) (hs : y.1 q = some (ob 8 [.int sp.1, .int sp.2])) (hp : post (vs.any (fun c => has sp c)) y) : wp_X4_hasAny G post y a (some l) (some q) := by
  obtain ⟨fs, hfs⟩ := hv.cell h1
  have hlen := h2.len
  have hl := hv.len h1
  refine ⟨fun n y' x => y' = y ∧ ∃ k, x = nI k ∧ k ≤ xs.length ∧ n = xs.length - k ∧ ∀ j (hj : j < vs.length), j < k → has sp vs[j] = false, ⟨_, rfl, 0, rfl, Nat.zero_le _, rfl, fun j _ h => absurd h (Nat.not_lt_zero _)⟩, ?_⟩
  rintro n y' x ⟨rfl, k, rfl, hk, rfl, hno⟩
  refine ⟨l, rfl, ⟨fs, Or.inl hfs⟩, hv.size h1 ⟨fun hge => ?_, fun hlt => ⟨⟨fs, Or.inl hfs⟩, ?_⟩⟩⟩
  · have hkl := nle_of (by omega) hk hge
    have : vs.any (fun c => has sp c) = false := any_no (fun j hj => hno j hj (by omega))
    rw [this] at hp
    exact hp
  · have hk2 := nlt_of (by omega) hk hlt
    have hb2 := h2.at k hk2 (by omega)
    obtain ⟨q2, e1, e2⟩ := hb2
    refine hv.get h1 hk2 ⟨(h2.at k hk2 (by omega)).of, q2, e1, ⟨_, e2⟩, sp_intValue e2 ⟨q, rfl, ⟨_, Or.inl hs⟩, sp_has hs ⟨fun hb => ⟨xs.length - (k + 1), by omega, rfl, k + 1, by rw [nI_add], by omega, rfl, fun j hj hjk => ?_⟩, fun hb => ?_⟩⟩⟩
    · by_cases hjk2 : j = k
      · subst hjk2; exact hb
      · exact hno j hj (by omega)
    · have : vs.any (fun c => has sp c) = true := any_yes (by omega) hb
      rw [this] at hp
      exact hp
