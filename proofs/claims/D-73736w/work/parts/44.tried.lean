/-! Plain laws: answers as they are tried -/
set_option maxRecDepth 100000
def evB (an age days level top : Int32) (k : Cn) : Bool :=
  if k.1 < 6 then decide (((an >>> (nI k.2.2.2 &&& 31)) &&& nI 1) = nI 1)
  else if k.1 = 6 then cmpM k.2.1 age k.2.2.1
  else if k.1 = 7 then cmpM k.2.1 days k.2.2.1
  else if k.1 = 8 then cmpM k.2.1 level k.2.2.1
  else cmpM k.2.1 top k.2.2.1
theorem sp_holds16 {G : GP} {y : HS} {a qa : Nat} {k : Cn} {an age days level top : Int32} {post : Bool → HS → Prop} (hs : y.1 a = some (ob 16 [.int an, .int age, .int days, .int level, .int top])) (ha : atR G y qa k) (hp : post (evB an age days level top k) y) : wp_X18_holds G post y a (some qa) := by
  have ha0 := ha
  obtain ⟨ww, sp, sg, nb, h1, h2, h3, h4, h5, h6, h7⟩ := ha
  refine ⟨qa, rfl, ⟨_, Or.inl h1⟩, _, ⟨_, h1, rfl⟩, fun hn => ?_, fun b hb => ?_⟩
  · have hk6 : 6 ≤ k.1 := by
      rcases Nat.lt_or_ge k.1 6 with z | z
      · obtain ⟨q3, e3, -⟩ := h6 z
        rw [hn] at e3; cases e3
      · exact z
    refine ⟨fun h => ?_, fun h => (by cases h)⟩
    obtain ⟨bb, h2a, h2b⟩ := id h2
    refine ⟨fun y8 x9 r10 => y8 = y ∧ r10 = some qa ∧ post (cmpM k.2.1 x9 k.2.2.1) y, ?_, _, ⟨_, h1, rfl⟩, ww, rfl, ⟨_, h2a⟩, ?_⟩
    · rintro y8 x9 r10 ⟨rfl, rfl, hp2⟩
      exact sp_compares ha0 hk6 hp2
    · obtain ⟨k1, one, two, un⟩ := k
      dsimp only at h2 h3 h4 h5 hk6
      have hk : k1 = 6 ∨ k1 = 7 ∨ k1 = 8 ∨ k1 = 9 := by omega
      rcases hk with rfl | rfl | rfl | rfl
      · exact sp_J5_equals h2 (srR.con (by decide)) (h3 0 (by decide)) ⟨fun hb => absurd hb (by decide +kernel), fun _ => ⟨_, ⟨_, hs, rfl⟩, rfl, rfl, hp⟩⟩
      · exact sp_J5_equals h2 (srR.con (by decide)) (h3 0 (by decide)) ⟨fun _ => ⟨_, ⟨_, h1, rfl⟩, ww, rfl, ⟨_, h2a⟩, sp_J5_equals h2 (srR.con (by decide)) (h3 5 (by decide)) ⟨fun hb => absurd hb (by decide +kernel), fun _ => ⟨_, ⟨_, hs, rfl⟩, rfl, rfl, hp⟩⟩⟩, fun hb => absurd hb (by decide +kernel)⟩
      · exact sp_J5_equals h2 (srR.con (by decide)) (h3 0 (by decide)) ⟨fun _ => ⟨_, ⟨_, h1, rfl⟩, ww, rfl, ⟨_, h2a⟩, sp_J5_equals h2 (srR.con (by decide)) (h3 5 (by decide)) ⟨fun _ => ⟨_, ⟨_, h1, rfl⟩, ww, rfl, ⟨_, h2a⟩, sp_J5_equals h2 (srR.con (by decide)) (h3 10 (by decide)) ⟨fun hb => absurd hb (by decide +kernel), fun _ => ⟨_, ⟨_, hs, rfl⟩, rfl, rfl, hp⟩⟩⟩, fun hb => absurd hb (by decide +kernel)⟩⟩, fun hb => absurd hb (by decide +kernel)⟩
      · exact sp_J5_equals h2 (srR.con (by decide)) (h3 0 (by decide)) ⟨fun _ => ⟨_, ⟨_, h1, rfl⟩, ww, rfl, ⟨_, h2a⟩, sp_J5_equals h2 (srR.con (by decide)) (h3 5 (by decide)) ⟨fun _ => ⟨_, ⟨_, h1, rfl⟩, ww, rfl, ⟨_, h2a⟩, sp_J5_equals h2 (srR.con (by decide)) (h3 10 (by decide)) ⟨fun _ => ⟨_, ⟨_, hs, rfl⟩, rfl, rfl, hp⟩, fun hb => absurd hb (by decide +kernel)⟩⟩, fun hb => absurd hb (by decide +kernel)⟩⟩, fun hb => absurd hb (by decide +kernel)⟩
  · have hk6 : k.1 < 6 := by
      rcases Nat.lt_or_ge k.1 6 with z | z
      · exact z
      · obtain ⟨e3, -⟩ := h7 z
        rw [hb] at e3; cases e3
    refine ⟨fun h => (by cases h), fun _ => ⟨_, ⟨_, hs, rfl⟩, _, ⟨_, h1, rfl⟩, fun hne => ?_, fun he => ?_⟩⟩
    · rw [evB, if_pos hk6, decide_eq_false hne] at hp; exact hp
    · rw [evB, if_pos hk6, decide_eq_true he] at hp; exact hp
