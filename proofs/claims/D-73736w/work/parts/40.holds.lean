/-! Plain laws: what is asked of a stay -/
set_option maxRecDepth 100000
/-- a condition: what (0 or 1 and 2 not 3 has 4 main 5 did 6 age 7 days 8 level 9 top), one, two, which of the unlike ones -/
abbrev Cn : Type := Nat × Int32 × Int32 × Nat
/-- the told word of a condition -/
def wi (w : Nat) : Nat := [13, 1, 12, 8, 11, 6, 0, 5, 10, 18].getD w 18
def cmpM (one v n : Int32) : Bool := if one = 0 then decide (v < n) else decide (n < v)
def evA (s : St) (level top : Int32) (k : Cn) : Bool :=
  if k.1 = 3 then has (k.2.1, k.2.2.1) (sMain s) || (sSecs s).any (fun c => has (k.2.1, k.2.2.1) c)
  else if k.1 = 4 then has (k.2.1, k.2.2.1) (sMain s)
  else if k.1 = 5 then (sProcs s).any (fun c => has (k.2.1, k.2.2.1) c)
  else if k.1 = 6 then cmpM k.2.1 (sAge s) k.2.2.1
  else if k.1 = 7 then cmpM k.2.1 (sDays s) k.2.2.1
  else if k.1 = 8 then cmpM k.2.1 level k.2.2.1
  else cmpM k.2.1 top k.2.2.1
/-- the atom at q -/
def atR (G : GP) (y : HS) (q : Nat) (k : Cn) : Prop := ∃ (w : Nat) (sp : Option Nat) (sg nb : Int32), y.1 q = some (ob 13 [va_rf (some w), va_rf sp, .int sg, .int nb, .int (nI k.2.2.2)]) ∧ srR G y w (wd (wi k.1)) (whT.getD (wi k.1) 0) ∧ (∀ j, j < 20 → w = gK G j → wd (wi k.1) = wd j) ∧ 3 ≤ k.1 ∧ k.1 ≤ 9 ∧ (k.1 < 6 → spR y sp (k.2.1, k.2.2.1)) ∧ (6 ≤ k.1 → sp = none ∧ sg = (if k.2.1 = 0 then nI 60 else nI 62) ∧ nb = k.2.2.1)
theorem sp_compares {G : GP} {y : HS} {q : Nat} {k : Cn} {v : Int32} {post : Bool → HS → Prop} (h : atR G y q k) (h6 : 6 ≤ k.1) (hp : post (cmpM k.2.1 v k.2.2.1) y) : wp_X3_compares G post y (some q) v := by
  obtain ⟨w, sp, sg, nb, h1, -, -, -, -, -, h7⟩ := h
  obtain ⟨-, rfl, rfl⟩ := h7 h6
  refine ⟨q, rfl, _, ⟨_, h1, rfl⟩, fun hne => ⟨_, ⟨_, h1, rfl⟩, fun hle => ?_, fun hle => ?_⟩, fun he => ⟨_, ⟨_, h1, rfl⟩, fun hle => ?_, fun hle => ?_⟩⟩
  · have hz : ¬ k.2.1 = 0 := fun hz => hne (by rw [if_pos hz])
    have : cmpM k.2.1 v k.2.2.1 = false := by rw [cmpM, if_neg hz, decide_eq_false (Int32.not_lt.mpr hle)]
    rw [this] at hp; exact hp
  · have hz : ¬ k.2.1 = 0 := fun hz => hne (by rw [if_pos hz])
    have : cmpM k.2.1 v k.2.2.1 = true := by rw [cmpM, if_neg hz, decide_eq_true (Int32.not_le.mp hle)]
    rw [this] at hp; exact hp
  · have hz : k.2.1 = 0 := Classical.byContradiction fun hz => by rw [if_neg hz] at he; exact absurd he (by decide)
    have : cmpM k.2.1 v k.2.2.1 = false := by rw [cmpM, if_pos hz, decide_eq_false (Int32.not_lt.mpr hle)]
    rw [this] at hp; exact hp
  · have hz : k.2.1 = 0 := Classical.byContradiction fun hz => by rw [if_neg hz] at he; exact absurd he (by decide)
    have : cmpM k.2.1 v k.2.2.1 = true := by rw [cmpM, if_pos hz, decide_eq_true (Int32.not_le.mp hle)]
    rw [this] at hp; exact hp
theorem sp_holds {G : GP} {y : HS} {D : LM} {a e q l1 l2 qa : Nat} {s : St} {k : Cn} {c top level w : Int32} {lf : Option Nat} {wy : Int64} {post : Bool → HS → Prop} (hv : V G y D) (hs : y.1 a = some (ob 2 [va_rf (some e), va_rf (some q), .int c, .int top, .int level, va_rf lf, .int w, .long wy])) (hst : stR G y D q l1 l2 s) (ha : atR G y qa k) (hp : post (evA s level top k) y) : wp_X4_holds G post y a (some qa) := by
  have ha0 := ha
  obtain ⟨ww, sp, sg, nb, h1, h2, h3, h4, h5, h6, h7⟩ := ha
  obtain ⟨g0, ⟨xs1, a1, a2⟩, ⟨xs2, b1, b2⟩, g4, g5, g6⟩ := hst
  obtain ⟨k1, one, two, un⟩ := k
  dsimp only at h2 h3 h4 h5
  refine ⟨fun y3 x4 => y3 = y ∧ x4 = [0, 0, 0, nI 0, nI 1, nI 2, nI 3, nI 4, nI 5, -1].getD k1 0, ?_, ?_⟩
  · rintro y3 x4 ⟨rfl, rfl⟩
    have hk : k1 = 3 ∨ k1 = 4 ∨ k1 = 5 ∨ k1 = 6 ∨ k1 = 7 ∨ k1 = 8 ∨ k1 = 9 := by
      have : 3 ≤ k1 := h4
      have : k1 ≤ 9 := h5
      omega
    rcases hk with rfl | rfl | rfl | rfl | rfl | rfl | rfl
    · obtain ⟨q3, rfl, e4⟩ := h6 (Nat.le_of_ble_eq_true rfl)
      refine ⟨fun _ => ⟨qa, rfl, _, ⟨_, h1, rfl⟩, _, ⟨_, hs, rfl⟩, q, rfl, _, ⟨_, g0, rfl⟩, q3, rfl, ⟨_, Or.inl e4⟩, sp_has e4 ⟨fun hb => ?_, fun hb => ⟨_, ⟨_, hs, rfl⟩, q, rfl, _, ⟨_, g0, rfl⟩, _, ⟨_, h1, rfl⟩, ⟨_, Or.inl hs⟩, sp_hasAny hv a1 a2 e4 ⟨fun hb2 => ?_, fun hb2 => ?_⟩⟩⟩⟩, fun h => absurd rfl h⟩
      · simpa [evA, hb] using hp
      · have : evA s level top (3, one, two, un) = false := by
          simp only [evA, if_true]
          rw [hb, hb2]; rfl
        rw [this] at hp; exact hp
      · have : evA s level top (3, one, two, un) = true := by
          simp only [evA, if_true]
          rw [hb2, Bool.or_true]
        rw [this] at hp; exact hp
    · obtain ⟨q3, rfl, e4⟩ := h6 (Nat.le_of_ble_eq_true rfl)
      exact ⟨fun h => absurd h (by decide), fun _ => ⟨fun _ => ⟨qa, rfl, _, ⟨_, h1, rfl⟩, _, ⟨_, hs, rfl⟩, q, rfl, _, ⟨_, g0, rfl⟩, q3, rfl, ⟨_, Or.inl e4⟩, sp_has e4 hp⟩, fun h => absurd rfl h⟩⟩
    · obtain ⟨q3, rfl, e4⟩ := h6 (Nat.le_of_ble_eq_true rfl)
      exact ⟨fun h => absurd h (by decide), fun _ => ⟨fun h => absurd h (by decide), fun _ => ⟨fun _ => ⟨_, ⟨_, hs, rfl⟩, q, rfl, _, ⟨_, g0, rfl⟩, qa, rfl, _, ⟨_, h1, rfl⟩, ⟨_, Or.inl hs⟩, sp_hasAny hv b1 b2 e4 hp⟩, fun h => absurd rfl h⟩⟩⟩
    · exact ⟨fun h => absurd h (by decide), fun _ => ⟨fun h => absurd h (by decide), fun _ => ⟨fun h => absurd h (by decide), fun _ => ⟨fun _ => ⟨_, ⟨_, hs, rfl⟩, q, rfl, _, ⟨_, g0, rfl⟩, sp_compares ha0 (Nat.le_of_ble_eq_true rfl) hp⟩, fun h => absurd rfl h⟩⟩⟩⟩
    · exact ⟨fun h => absurd h (by decide), fun _ => ⟨fun h => absurd h (by decide), fun _ => ⟨fun h => absurd h (by decide), fun _ => ⟨fun h => absurd h (by decide), fun _ => ⟨fun _ => ⟨_, ⟨_, hs, rfl⟩, q, rfl, _, ⟨_, g0, rfl⟩, sp_compares ha0 (Nat.le_of_ble_eq_true rfl) hp⟩, fun h => absurd rfl h⟩⟩⟩⟩⟩
    · exact ⟨fun h => absurd h (by decide), fun _ => ⟨fun h => absurd h (by decide), fun _ => ⟨fun h => absurd h (by decide), fun _ => ⟨fun h => absurd h (by decide), fun _ => ⟨fun h => absurd h (by decide), fun _ => ⟨fun _ => ⟨_, ⟨_, hs, rfl⟩, sp_compares ha0 (Nat.le_of_ble_eq_true rfl) hp⟩, fun h => absurd rfl h⟩⟩⟩⟩⟩⟩
    · exact ⟨fun h => absurd h (by decide), fun _ => ⟨fun h => absurd h (by decide), fun _ => ⟨fun h => absurd h (by decide), fun _ => ⟨fun h => absurd h (by decide), fun _ => ⟨fun h => absurd h (by decide), fun _ => ⟨fun h => absurd h (by decide), fun _ => ⟨_, ⟨_, hs, rfl⟩, sp_compares ha0 (Nat.le_of_ble_eq_true rfl) hp⟩⟩⟩⟩⟩⟩⟩
  · obtain ⟨bb, h2a, h2b⟩ := id h2
    refine ⟨qa, rfl, _, ⟨_, h1, rfl⟩, ww, rfl, ⟨_, h2a⟩, ?_⟩
    have hk : k1 = 3 ∨ k1 = 4 ∨ k1 = 5 ∨ k1 = 6 ∨ k1 = 7 ∨ k1 = 8 ∨ k1 = 9 := by
      have : 3 ≤ k1 := h4
      have : k1 ≤ 9 := h5
      omega
    rcases hk with rfl | rfl | rfl | rfl | rfl | rfl | rfl
    · refine sp_hash h2 (by decide +kernel) ⟨fun h => absurd h (by decide +kernel), fun _ => ⟨fun h => absurd h (by decide +kernel), fun _ => ⟨fun _ => ⟨⟨_, h2a⟩, sp_J5_equals h2 (srR.con (by decide)) (h3 8 (by decide)) ⟨fun hb => absurd hb (by decide +kernel), fun _ => ⟨rfl, rfl⟩⟩⟩, fun h => absurd (by decide +kernel) h⟩⟩⟩
    · refine sp_hash h2 (by decide +kernel) ⟨fun h => absurd h (by decide +kernel), fun _ => ⟨fun h => absurd h (by decide +kernel), fun _ => ⟨fun h => absurd h (by decide +kernel), fun _ => ⟨fun h => absurd h (by decide +kernel), fun _ => ⟨fun _ => ⟨⟨_, h2a⟩, sp_J5_equals h2 (srR.con (by decide)) (h3 11 (by decide)) ⟨fun hb => absurd hb (by decide +kernel), fun _ => ⟨rfl, rfl⟩⟩⟩, fun h => absurd (by decide +kernel) h⟩⟩⟩⟩⟩
    · refine sp_hash h2 (by decide +kernel) ⟨fun h => absurd h (by decide +kernel), fun _ => ⟨fun _ => ⟨⟨_, h2a⟩, sp_J5_equals h2 (srR.con (by decide)) (h3 6 (by decide)) ⟨fun hb => absurd hb (by decide +kernel), fun _ => ⟨rfl, rfl⟩⟩⟩, fun h => absurd (by decide +kernel) h⟩⟩
    · refine sp_hash h2 (by decide +kernel) ⟨fun _ => ⟨⟨_, h2a⟩, sp_J5_equals h2 (srR.con (by decide)) (h3 0 (by decide)) ⟨fun hb => absurd hb (by decide +kernel), fun _ => ⟨rfl, rfl⟩⟩⟩, fun h => absurd (by decide +kernel) h⟩
    · refine sp_hash h2 (by decide +kernel) ⟨fun h => absurd h (by decide +kernel), fun _ => ⟨fun h => absurd h (by decide +kernel), fun _ => ⟨fun h => absurd h (by decide +kernel), fun _ => ⟨fun _ => ⟨⟨_, h2a⟩, sp_J5_equals h2 (srR.con (by decide)) (h3 5 (by decide)) ⟨fun hb => absurd hb (by decide +kernel), fun _ => ⟨rfl, rfl⟩⟩⟩, fun h => absurd (by decide +kernel) h⟩⟩⟩⟩
    · refine sp_hash h2 (by decide +kernel) ⟨fun h => absurd h (by decide +kernel), fun _ => ⟨fun h => absurd h (by decide +kernel), fun _ => ⟨fun h => absurd h (by decide +kernel), fun _ => ⟨fun h => absurd h (by decide +kernel), fun _ => ⟨fun h => absurd h (by decide +kernel), fun _ => ⟨fun _ => ⟨⟨_, h2a⟩, sp_J5_equals h2 (srR.con (by decide)) (h3 10 (by decide)) ⟨fun hb => absurd hb (by decide +kernel), fun _ => ⟨rfl, rfl⟩⟩⟩, fun h => absurd (by decide +kernel) h⟩⟩⟩⟩⟩⟩
    · refine sp_hash h2 (by decide +kernel) ⟨fun h => absurd h (by decide +kernel), fun _ => ⟨fun h => absurd h (by decide +kernel), fun _ => ⟨fun h => absurd h (by decide +kernel), fun _ => ⟨fun h => absurd h (by decide +kernel), fun _ => ⟨fun h => absurd h (by decide +kernel), fun _ => ⟨fun h => absurd h (by decide +kernel), fun _ => ⟨rfl, rfl⟩⟩⟩⟩⟩⟩⟩
