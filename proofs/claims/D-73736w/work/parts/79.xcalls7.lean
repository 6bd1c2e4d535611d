/-! The component's calls: comparing -/
set_option maxRecDepth 100000
theorem lkA_none {E : Ed} {g : EG} {s : St} (h : lkA g E s = none) : lkK E s < 0 := by
  have hN : lkN E s = none := by
    cases e : lkN E s with
    | none => rfl
    | some p => rw [lkA, e] at h; cases h
  have : lkK E s = -1 := by rw [lkK, hN]
  rw [this]
  decide
theorem EX.lkA_some {G : GP} {y : HS} {D Dl : LM} {e a : Nat} {E : Ed} {g : EG} {s : St} (hE : EX G y D Dl e E g) (h : lkA g E s = some a) : ¬ lkK E s < 0 ∧ ∃ j, j < (eCl E).length ∧ lkK E s = nI j := by
  have l16 : (eCl E).length ≤ 16 := hE.2.2.2.2.2.2.2.2.2.1
  cases hN : lkN E s with
  | none => rw [lkA, hN] at h; cases h
  | some p =>
    obtain ⟨x, z1, z2, z3, ⟨j, j1, j2⟩, z5⟩ := hE.leaf hN
    rw [z3, j2]
    exact ⟨nI_pos (by omega), j, j1, rfl⟩
theorem sp_isMovedX {G : GP} {y : HS} {X k e2 : Nat} {M : MS} {K : Ed} {g : XG} {g2 : EG} {post : Bool → HS → Prop} (h : XRg G y X M g) (hk : k < (mS M).length) (hKq : xKq g = some e2) (hE2 : EX G y (xD g) (xDl g) e2 K g2)
    (hp : ∀ y', XRg G y' X M g → EX G y' (xD g) (xDl g) e2 K g2 → (∃ v1 v2 v3 v4 v6 v7, y'.1 (xSn g) = some (ob 2 [va_rf (some (xE g)), v1, v2, v3, v4, va_rf (lkA (xEg g) (mE M) (mS M)[k]), v6, v7])) → (∃ v1 v2 v3 v4 v6 v7, y'.1 (xOt g) = some (ob 2 [va_rf (some e2), v1, v2, v3, v4, va_rf (lkA g2 K (mS M)[k]), v6, v7])) → post (mvd (mE M) K (mS M)[k]) y') : wp_X1_isMoved G post y X (nI k) := by
  refine ⟨fun y3 => XRg G y3 X M g ∧ EX G y3 (xD g) (xDl g) e2 K g2 ∧ (∃ v1 v2 v3 v4 v6 v7, y3.1 (xSn g) = some (ob 2 [va_rf (some (xE g)), v1, v2, v3, v4, va_rf (lkA (xEg g) (mE M) (mS M)[k]), v6, v7])) ∧ (∃ v1 v2 v3 v4 v6 v7, y3.1 (xOt g) = some (ob 2 [va_rf (some e2), v1, v2, v3, v4, va_rf (lkA g2 K (mS M)[k]), v6, v7])) ∧ (lkA (xEg g) (mE M) (mS M)[k] = none ∨ lkA g2 K (mS M)[k] = none), ?_, h.rdX, sp_X1_looks h hk (fun y1 hq1 h1 u1 hs1 => ?_)⟩
  · rintro y3 ⟨h3, E3, hsn, hot, hor⟩
    have hp' := hp y3 h3 E3 hsn hot
    obtain ⟨v1, v2, v3, v4, v6, v7, hsn⟩ := hsn
    obtain ⟨w1, w2, w3, w4, w6, w7, hot⟩ := hot
    have hcond : lkK (mE M) (mS M)[k] < 0 ∨ lkK K (mS M)[k] < 0 := by
      rcases hor with z | z
      · exact Or.inl (lkA_none z)
      · exact Or.inr (lkA_none z)
    rw [mvd, if_pos hcond] at hp'
    refine ⟨_, ⟨_, h3.cx, rfl⟩, _, rfl, _, ⟨_, hsn, rfl⟩, _, ⟨_, h3.cx, rfl⟩, _, rfl, _, ⟨_, hot, rfl⟩, fun he => ?_, fun hne => ?_⟩
    · have hb : lkA (xEg g) (mE M) (mS M)[k] = none ∧ lkA g2 K (mS M)[k] = none := by
        rcases hor with z | z
        · exact ⟨z, by rw [← he]; exact z⟩
        · exact ⟨by rw [he]; exact z, z⟩
      rw [decide_eq_true (lkA_none hb.1), decide_eq_true (lkA_none hb.2)] at hp'
      exact hp'
    · cases e1 : lkA (xEg g) (mE M) (mS M)[k] with
      | some a1 =>
        rw [decide_eq_false (h3.2.2.2.1.lkA_some e1).1] at hp'
        exact hp'
      | none =>
        cases e3 : lkA g2 K (mS M)[k] with
        | none => rw [e1, e3] at hne; exact absurd rfl hne
        | some a1 =>
          rw [decide_eq_true (lkA_none e1), decide_eq_false (E3.lkA_some e3).1] at hp'
          exact hp'
  · have E1 : EX G y1 (xD g) (xDl g) e2 K g2 := by
      obtain ⟨-, -, -, -, -, ⟨v0, v1, c0, t0, k0, w0, lf0, wy0, h6⟩, -⟩ := id h
      exact hE2.su h.1 u1 h6
    obtain ⟨v1', -, s1, -, -, -, ⟨v0, v1, c0, t0, k0, w0, lf0, wy0, h7⟩, hne⟩ := id h1
    refine ⟨_, ⟨_, h1.cx, rfl⟩, _, ⟨_, h1.cx, rfl⟩, _, ⟨_, h1.cx, rfl⟩, _, rfl, h1.ls, sp_stayAt h1 hk (fun hq2 hst2 _ => ⟨hst2.of, _, rfl, ⟨_, Or.inl h7⟩, ?_⟩)⟩
    rw [hKq]
    refine sp_looks (xDl_sub g) v1' E1 hst2 h7 (fun y2 u2 hs2 => ?_)
    have h2 := h1.su u2 (Or.inr rfl) ⟨_, _, _, _, _, _, _, _, hs2⟩
    have E2 : EX G y2 (xD g) (xDl g) e2 K g2 := E1.su v1' u2 h7
    have hsn2 := hs1
    rw [← u2.1 _ hne] at hsn2
    refine ⟨_, ⟨_, h2.cx, rfl⟩, _, rfl, _, ⟨_, hsn2, rfl⟩, fun hz => ⟨h2, E2, ⟨_, _, _, _, _, _, hsn2⟩, ⟨_, _, _, _, _, _, hs2⟩, Or.inl hz⟩, fun a27 ha27 => ⟨_, ⟨_, h2.cx, rfl⟩, _, rfl, _, ⟨_, hs2, rfl⟩, fun hz => ⟨h2, E2, ⟨_, _, _, _, _, _, hsn2⟩, ⟨_, _, _, _, _, _, hs2⟩, Or.inr hz⟩, fun a32 ha32 => ?_⟩⟩
    obtain ⟨n1, j1, j1l, j1e⟩ := h2.2.2.2.1.lkA_some ha27
    obtain ⟨n2, j2, j2l, j2e⟩ := E2.lkA_some ha32
    have l16 : (eCl (mE M)).length ≤ 16 := h2.2.2.2.1.2.2.2.2.2.2.2.2.2.1
    have l16K : (eCl K).length ≤ 16 := E2.2.2.2.2.2.2.2.2.2.1
    have hp' := hp y2 h2 E2 ⟨_, _, _, _, _, _, hsn2⟩ ⟨_, _, _, _, _, _, hs2⟩
    obtain ⟨m1, m2⟩ := nm_ok h2.2.2.2.1.2.2.2.2.2.2.2.2.1 j1l l16 j1e
    obtain ⟨m3, m4⟩ := nm_ok E2.2.2.2.2.2.2.2.2.1 j2l l16K j2e
    rw [mvd, if_neg (fun z => by rcases z with z | z; exact n1 z; exact n2 z), m1, m3] at hp'
    obtain ⟨gn, d1, d2, d3⟩ := exC.nm E2
    obtain ⟨qn, q1, q2⟩ := d2 j2 j2l
    refine ⟨_, ⟨_, h2.cx, rfl⟩, _, ⟨_, h2.cx, rfl⟩, _, rfl, ⟨_, Or.inl hsn2⟩, sp_cls h2.2.2.2.1 hsn2 ⟨_, ⟨_, h2.cx, rfl⟩, _, hKq, _, ⟨_, E2.1.1, rfl⟩, _, ⟨_, h2.cx, rfl⟩, _, rfl, ⟨_, Or.inl hs2⟩, sp_cls E2 hs2 ?_⟩⟩
    rw [j1e, j2e, nI_clamp (show j2 < 2 ^ 31 by omega)]
    refine ⟨_, rfl, 16, gn, Or.inl d1, vp_inN (by omega) (by omega), _, rfl, ⟨_, Or.inl h2.2.2.2.1.1.1⟩, ?_⟩
    rw [q1]
    refine sp_isCalled h2.2.2.2.1 j1l q2 (by have := m4.2.1; omega) (fun b hb => by have := m4.2.2 b hb; omega) ⟨fun hb => ?_, fun hb => ?_⟩
    · rw [hb] at hp'; exact hp'
    · rw [hb] at hp'; exact hp'
theorem cx_compare {G : GP} {y : HS} {X : Nat} {M : MS} {w : Int32} {post : Int32 → HS → Prop} (h : XR G y X M) (hp : ∀ y', XR G y' X M → post (aCompare (mE M) (mK M) (mS M) w) y') : wp_X1_compare G post y X w := by
  have hXR := h
  obtain ⟨g, h⟩ := h
  have hl : (mS M).length ≤ 24 := h.2.2.1.2.2.2.1
  rcases h.2.2.2.2.1 with ⟨k1, k2⟩ | ⟨K, e2, g2, k1, k2, k3⟩
  · rw [k1, aCompare] at hp
    refine ⟨_, ⟨_, h.cx, rfl⟩, fun _ => hp y hXR, fun a3 z => ?_⟩
    rw [k2] at z; cases z
  · rw [k1, aCompare] at hp
    refine ⟨_, ⟨_, h.cx, rfl⟩, fun z => (by rw [k2] at z; cases z), fun a3 z => sp_within ⟨fun hb => ?_, fun hb => ?_⟩⟩
    · rw [hb] at hp
      simp only [if_true] at hp
      refine ⟨fun n y2 x12 x13 x14 x15 => ∃ j, XRg G y2 X M g ∧ EX G y2 (xD g) (xDl g) e2 K g2 ∧ x15 = nI j ∧ j ≤ (mS M).length ∧ n = (mS M).length - j ∧ x12 = nI (((mS M).take j).countP (mvd (mE M) K)) ∧ x13 = sumW (fun s => lkW K s - lkW (mE M) s) ((mS M).take j) ∧ x14 = fst9 ((mS M).take j) (mvd (mE M) K), ⟨_, 0, h, k3, rfl, Nat.zero_le _, rfl, rfl, nI_0, rfl⟩, ?_⟩
      rintro n y2 x12 x13 x14 x15 ⟨j, h2, E2, rfl, hj, rfl, rfl, rfl, rfl⟩
      refine ⟨_, ⟨_, h2.cx, rfl⟩, _, rfl, h2.ls, h2.1.size h2.2.2.1.1 ?_⟩
      rw [List.length_map, h2.2.2.1.2.2.1]
      refine ⟨fun hge => ?_, fun hlt => ?_⟩
      · have hh := nle_of (by omega) hj hge
        rw [List.take_of_length_le (by omega)]
        have hp' := hp y2 ⟨g, h2⟩
        refine ⟨fun hw0 => ⟨fun hw1 => ?_, fun hw1 => ?_⟩, fun hw0 => ?_⟩
        · rw [if_neg hw0, if_neg hw1] at hp'; exact hp'
        · rw [if_neg hw0, if_pos hw1] at hp'; exact hp'
        · rw [if_pos hw0] at hp'; exact hp'
      · have hj2 := nlt_of (by omega) hj hlt
        refine ⟨fun y27 b28 x29 => (XRg G y27 X M g ∧ EX G y27 (xD g) (xDl g) e2 K g2 ∧ (∃ v1 v2 v3 v4 v6 v7, y27.1 (xSn g) = some (ob 2 [va_rf (some (xE g)), v1, v2, v3, v4, va_rf (lkA (xEg g) (mE M) (mS M)[j]), v6, v7])) ∧ (∃ v1 v2 v3 v4 v6 v7, y27.1 (xOt g) = some (ob 2 [va_rf (some e2), v1, v2, v3, v4, va_rf (lkA g2 K (mS M)[j]), v6, v7])) ∧ b28 = mvd (mE M) K (mS M)[j]) ∧ x29 = fst9 ((mS M).take (j + 1)) (mvd (mE M) K), ?_, fun y53 b54 => (XRg G y53 X M g ∧ EX G y53 (xD g) (xDl g) e2 K g2 ∧ (∃ v1 v2 v3 v4 v6 v7, y53.1 (xSn g) = some (ob 2 [va_rf (some (xE g)), v1, v2, v3, v4, va_rf (lkA (xEg g) (mE M) (mS M)[j]), v6, v7])) ∧ (∃ v1 v2 v3 v4 v6 v7, y53.1 (xOt g) = some (ob 2 [va_rf (some e2), v1, v2, v3, v4, va_rf (lkA g2 K (mS M)[j]), v6, v7])) ∧ b54 = mvd (mE M) K (mS M)[j]) ∧ fst9 ((mS M).take j) (mvd (mE M) K) = fst9 ((mS M).take (j + 1)) (mvd (mE M) K), ?_, h2.rdX, sp_isMovedX h2 hj2 k2 E2 (fun y' h' E' hsn hot => ⟨fun hm => ⟨⟨h', E', hsn, hot, rfl⟩, ?_⟩, fun hm => ⟨fun hge => ⟨⟨h', E', hsn, hot, rfl⟩, ?_⟩, fun hge => ⟨⟨h', E', hsn, hot, rfl⟩, ?_⟩⟩⟩)⟩
        · rintro y27 b28 x29 ⟨⟨h', E', hsn, hot, rfl⟩, rfl⟩
          refine ⟨fun y32 x33 b34 x35 => y32 = y27 ∧ x33 = fst9 ((mS M).take (j + 1)) (mvd (mE M) K) ∧ b34 = mvd (mE M) K (mS M)[j] ∧ x35 = nI (((mS M).take j).countP (mvd (mE M) K)), ?_, fun hm => ⟨rfl, rfl, hm.symm, rfl⟩, fun hm => ⟨rfl, rfl, hm.symm, rfl⟩⟩
          rintro y32 x33 b34 x35 ⟨e0, rfl, rfl, rfl⟩ x36 hx36
          subst e0
          obtain ⟨v1, v2, v3, v4, v6, v7, hsn⟩ := hsn
          obtain ⟨w1, w2, w3, w4, w6, w7, hot⟩ := hot
          refine ⟨_, ⟨_, h'.cx, rfl⟩, _, rfl, ⟨_, Or.inl hot⟩, sp_weight E' hot ⟨_, ⟨_, h'.cx, rfl⟩, _, rfl, ⟨_, Or.inl hsn⟩, sp_weight h'.2.2.2.1 hsn (fun x47 hx47 => ⟨_, by omega, j + 1, h', E', by rw [nI_add], by omega, rfl, ?_, ?_, rfl⟩)⟩⟩
          · rw [countP_succ hj2, hx36]
            cases mvd (mE M) K (mS M)[j]
            · show nI _ + 0 = _
              rw [Int32.add_zero]; rfl
            · show nI _ + nI 1 = _
              rw [nI_add]; rfl
          · rw [sumW_succ hj2, hx47]
        · rintro y53 b54 ⟨hq, he⟩
          exact ⟨hq, he⟩
        · rw [fst9_take hj2 (by omega), hm]
          by_cases hge : 0 ≤ fst9 ((mS M).take j) (mvd (mE M) K)
          · rw [if_pos hge]
          · rw [if_neg hge]
            rcases fst9_cases (xs := (mS M).take j) (p := mvd (mE M) K) (by rw [List.length_take]; omega) with ⟨e, -⟩ | ⟨k9, hk9, e⟩
            · rw [e]; rfl
            · rw [List.length_take] at hk9
              rw [e] at hge
              exact absurd (nI_pos' (by omega)) hge
        · rw [fst9_take hj2 (by omega), if_pos hge]
        · rw [fst9_take hj2 (by omega), if_neg hge, if_pos hm]
    · rw [hb] at hp
      exact hp y hXR
