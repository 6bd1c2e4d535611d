/-! The component's calls: stays that change, or are tried -/
set_option maxRecDepth 100000
theorem gco_le {n : Nat} (h : n < 10) : gco n ≤ 1 := by
  unfold gco
  split
  · omega
  · omega
theorem fit_len {s : St} {c : Int32} (h : sFit s c) : (sRow s c).length < 10 := by
  have := h.2.2
  split at this <;> omega
theorem cx_code {G : GP} {y : HS} {X B : Nat} {M : MS} {i c : Int32} {post : Int32 → HS → Prop} (hB : 3 ≤ B) (h : XR G y X M) (hp : ∀ y', XR G y' X (mE M, mK M, (aCode (mS M) i c).2, mT M, mF M) → post (aCode (mS M) i c).1 y') : wp_X1_code G B post y X i c := by
  obtain ⟨g, h⟩ := h
  have hl : (mS M).length ≤ 24 := h.2.2.1.2.2.2.1
  have hvc := vcost_le c
  refine ⟨h.rdX, sp_isStay h ?_⟩
  rcases isSt_or (n := (mS M).length) (by omega) i with e | ⟨k, hk, rfl⟩
  · rw [e]
    rw [aCode, gst_none e] at hp
    exact ⟨fun _ => hp y ⟨g, h⟩, fun z => (by cases z)⟩
  · rw [isSt_at (by omega) hk]
    rw [aCode, gst_some (by omega) hk] at hp
    refine ⟨fun z => (by cases z), fun _ => ⟨_, ⟨_, h.cx, rfl⟩, _, rfl, h.ls, sp_stayAt h hk (fun hq hst ho => ⟨hst.of, _, rfl, ⟨_, Or.inl hst.1⟩, 1, by omega, sp_mayHave h.1 hst hvc (fun y1 v1 kp1 _ _ kf1 => ?_)⟩)⟩⟩
    have h1 := h.new v1 kp1 kf1
    refine ⟨fun hb => ?_, fun hb => ?_⟩
    · simp only [hb, if_true] at hp
      have hf := sFit.may hb
      refine ⟨_, ⟨_, h1.cx, rfl⟩, _, rfl, h1.ls, sp_stayAt h1 hk (fun hq1 hst1 _ => ⟨hst1.of, _, rfl, ⟨_, Or.inl hst1.1⟩, 2, by omega, sp_takes h1.1 hst1 hf.2.2 (by have := gco_le (fit_len hf); omega) (fun y2 xs v2 hst2 kp2 _ _ kf2 => ?_)⟩)⟩
      have h2 := h1.upd hk hq1 v2 kp2 kf2 hst2 (stOk_put ho hf)
      have hkl : k < ((mS M).set k (sPut (mS M)[k] c)).length := by rw [List.length_set]; exact hk
      refine ⟨_, ⟨_, h2.cx, rfl⟩, _, rfl, h2.ls, sp_stayAt h2 hkl (fun hq2 hst3 _ => ⟨hst3.of, _, rfl, ⟨_, Or.inl hst3.1⟩, sp_X19_of hst3 ?_⟩)⟩
      obtain ⟨xr, r1, r2, -⟩ := hst3.row c
      obtain ⟨fr, hfr⟩ := h2.1.cell r1
      refine ⟨_, rfl, ⟨fr, Or.inl hfr⟩, h2.1.size r1 ?_⟩
      rw [r2.len, List.getElem_set_self]
      rw [set_upS (by omega)] at h2
      exact hp y2 ⟨_, h2⟩
    · simp only [hb, Bool.false_eq_true, if_false] at hp
      exact hp y1 ⟨g, h1⟩
/-- with one code more: what each costs -/
def wc (c : Int32) : Nat := 3 * vcost c + 1
theorem sp_with {G : GP} {y : HS} {X B k : Nat} {M : MS} {c : Int32} {g : XG} {post : Int32 → HS → Prop} (hB : wc c ≤ B) (h : XRg G y X M g) (hk : k < (mS M).length) (h0 : ∀ y', sMay (mS M)[k] c = false → XRg G y' X M g → post (-2) y') (h1 : ∀ y' g', sMay (mS M)[k] c = true → XRg G y' X M g' → xSn g' = xSn g → xE g' = xE g → xEg g' = xEg g → (∃ v1 v2 v3 v4 v6 v7, y'.1 (xSn g') = some (ob 2 [va_rf (some (xE g')), v1, v2, v3, v4, va_rf (lkA (xEg g') (mE M) (sPut (mS M)[k] c)), v6, v7])) → post (lkK (mE M) (sPut (mS M)[k] c)) y') : wp_X1_with G B post y X (nI k) c := by
  have hl : (mS M).length ≤ 24 := h.2.2.1.2.2.2.1
  have hvc := vcost_le c
  unfold wc at hB
  refine ⟨h.rdX, sp_isStay h ?_⟩
  rw [isSt_at (by omega) hk]
  refine ⟨fun z => (by cases z), fun _ => ⟨_, ⟨_, h.cx, rfl⟩, _, rfl, h.ls, sp_stayAt h hk (fun hq hst ho => ⟨hst.of, _, rfl, ⟨_, Or.inl hst.1⟩, vcost c, by omega, sp_mayHave h.1 hst (Nat.le_refl _) (fun y1 v1 kp1 _ _ kf1 => ?_)⟩)⟩⟩
  have g1 := h.new v1 kp1 kf1
  refine ⟨fun hb => ?_, fun hb => h0 y1 hb g1⟩
  have hf := sFit.may hb
  refine ⟨_, ⟨_, g1.cx, rfl⟩, _, rfl, g1.ls, sp_stayAt g1 hk (fun hq1 hst1 _ => ⟨hst1.of, _, rfl, ⟨_, Or.inl hst1.1⟩, vcost c + 1, by omega, sp_takes g1.1 hst1 hf.2.2 (by have := gco_le (fit_len hf); omega) (fun y2 xs v2 hst2 kp2 _ _ kf2 => ?_)⟩)⟩
  have g2 := g1.upd hk hq1 v2 kp2 kf2 hst2 (stOk_put ho hf)
  have hkl : k < ((mS M).set k (sPut (mS M)[k] c)).length := by rw [List.length_set]; exact hk
  refine ⟨g2.rdX, sp_X1_looks g2 hkl (fun y3 hq3 g3 u3 hs3 => ?_)⟩
  rw [List.getElem_set_self] at hs3
  obtain ⟨hst3, -, -, ho3⟩ := g3.2.2.1.2.2.2.2.2 k hkl hq3
  refine ⟨⟨_, Or.inl hst3.1⟩, vcost c, by omega, ?_⟩
  rw [List.getElem_set_self] at hst3
  refine sp_loses g3.1 hst3 (Nat.le_refl _) (fun y4 hn => absurd sRow_put hn) (fun y4 xs4 hm v4 hst4 kp4 _ _ kf4 => ?_)
  have g4 := g3.upd hkl hq3 v4 kp4 kf4 hst4 (stOk_del (by rw [List.getElem_set_self] at ho3; exact ho3))
  rw [sDel_sPut hf.2.1, set_back hk] at g4
  have hs4 := kp4 _ _ hs3 rfl
  exact ⟨_, ⟨_, g4.cx, rfl⟩, _, rfl, ⟨_, Or.inl hs4⟩, sp_cls g4.2.2.2.1 hs4 (h1 y4 _ hb g4 rfl rfl rfl ⟨_, _, _, _, _, _, hs4⟩)⟩
theorem cx_with {G : GP} {y : HS} {X B : Nat} {M : MS} {i c : Int32} {post : Int32 → HS → Prop} (hB : 4 ≤ B) (h : XR G y X M) (hp : ∀ y', XR G y' X M → post (aWith (mE M) (mS M) i c) y') : wp_X1_with G B post y X i c := by
  obtain ⟨g, h⟩ := h
  have hl : (mS M).length ≤ 24 := h.2.2.1.2.2.2.1
  rcases isSt_or (n := (mS M).length) (by omega) i with e | ⟨k, hk, rfl⟩
  · rw [aWith, gst_none e] at hp
    refine ⟨h.rdX, sp_isStay h ?_⟩
    rw [e]
    exact ⟨fun _ => hp y ⟨g, h⟩, fun z => (by cases z)⟩
  · rw [aWith, gst_some (by omega) hk] at hp
    refine sp_with (by have := vcost_le c; unfold wc; omega) h hk (fun y' hb h' => ?_) (fun y' g' hb h' _ _ _ _ => ?_)
    · simp only [hb, Bool.false_eq_true, if_false] at hp; exact hp y' ⟨_, h'⟩
    · simp only [hb, if_true] at hp; exact hp y' ⟨_, h'⟩
theorem sp_without {G : GP} {y : HS} {X B k : Nat} {M : MS} {c : Int32} {g : XG} {post : Int32 → HS → Prop} (hB : 3 ≤ B) (h : XRg G y X M g) (hk : k < (mS M).length) (h0 : ∀ y', c ∉ sRow (mS M)[k] c → XRg G y' X M g → post (-2) y') (h1 : ∀ y' g', c ∈ sRow (mS M)[k] c → XRg G y' X M g' → post (lkK (mE M) (sDel (mS M)[k] c)) y') : wp_X1_without G B post y X (nI k) c := by
  have hl : (mS M).length ≤ 24 := h.2.2.1.2.2.2.1
  have hvc := vcost_le c
  refine ⟨h.rdX, sp_isStay h ?_⟩
  rw [isSt_at (by omega) hk]
  refine ⟨fun z => (by cases z), fun _ => ⟨_, ⟨_, h.cx, rfl⟩, _, rfl, h.ls, sp_stayAt h hk (fun hq hst ho => ⟨hst.of, _, rfl, ⟨_, Or.inl hst.1⟩, 1, by omega, sp_loses h.1 hst hvc (fun y1 hn v1 kp1 _ _ kf1 => ⟨fun z => (by cases z), fun _ => h0 y1 hn (h.new v1 kp1 kf1)⟩) (fun y1 xs hm v1 hst1 kp1 _ _ kf1 => ⟨fun _ => ?_, fun z => (by cases z)⟩)⟩)⟩⟩
  have g1 := h.upd hk hq v1 kp1 kf1 hst1 (stOk_del ho)
  have hf := sFit.del ho hm
  have hkl : k < ((mS M).set k (sDel (mS M)[k] c)).length := by rw [List.length_set]; exact hk
  refine ⟨g1.rdX, sp_X1_looks g1 hkl (fun y2 hq2 g2 u2 hs2 => ?_)⟩
  rw [List.getElem_set_self] at hs2
  refine ⟨_, ⟨_, g2.cx, rfl⟩, _, rfl, g2.ls, sp_stayAt g2 hkl (fun hq3 hst3 ho3 => ⟨hst3.of, _, rfl, ⟨_, Or.inl hst3.1⟩, 2, by omega, ?_⟩)⟩
  rw [List.getElem_set_self] at hst3 ho3
  refine sp_takes g2.1 hst3 hf.2.2 (by have := gco_le (fit_len hf); omega) (fun y4 xs4 v4 hst4 kp4 _ _ kf4 => ?_)
  have g4 := g2.upd hkl hq3 v4 kp4 kf4 hst4 (stOk_put ho3 hf)
  rw [sPut_sDel ho hm, set_back hk] at g4
  have hs4 := kp4 _ _ hs2 rfl
  exact ⟨_, ⟨_, g4.cx, rfl⟩, _, rfl, ⟨_, Or.inl hs4⟩, sp_cls g4.2.2.2.1 hs4 (h1 y4 _ hm g4)⟩
theorem cx_without {G : GP} {y : HS} {X B : Nat} {M : MS} {i c : Int32} {post : Int32 → HS → Prop} (hB : 3 ≤ B) (h : XR G y X M) (hp : ∀ y', XR G y' X M → post (aWithout (mE M) (mS M) i c) y') : wp_X1_without G B post y X i c := by
  obtain ⟨g, h⟩ := h
  have hl : (mS M).length ≤ 24 := h.2.2.1.2.2.2.1
  rcases isSt_or (n := (mS M).length) (by omega) i with e | ⟨k, hk, rfl⟩
  · rw [aWithout, gst_none e] at hp
    refine ⟨h.rdX, sp_isStay h ?_⟩
    rw [e]
    exact ⟨fun _ => hp y ⟨g, h⟩, fun z => (by cases z)⟩
  · rw [aWithout, gst_some (by omega) hk] at hp
    refine sp_without hB h hk (fun y' hm h' => ?_) (fun y' g' hm h' => ?_)
    · simp only [if_neg hm] at hp; exact hp y' ⟨_, h'⟩
    · simp only [if_pos hm] at hp; exact hp y' ⟨_, h'⟩
theorem cx_matters {G : GP} {y : HS} {X B : Nat} {M : MS} {i : Int32} {post : Int32 → HS → Prop} (hB : 42 ≤ B) (h : XR G y X M) (hp : ∀ y', XR G y' X M → post (aMatters (mE M) (mS M) i) y') : wp_X1_matters G B post y X i := by
  obtain ⟨g, h⟩ := h
  have hl : (mS M).length ≤ 24 := h.2.2.1.2.2.2.1
  refine ⟨h.rdX, sp_isStay h ?_⟩
  rcases isSt_or (n := (mS M).length) (by omega) i with e | ⟨k, hk, rfl⟩
  · rw [e]
    rw [aMatters, gst_none e] at hp
    exact ⟨fun z => (by cases z), fun _ => hp y ⟨g, h⟩⟩
  · rw [isSt_at (by omega) hk]
    rw [aMatters, gst_some (by omega) hk] at hp
    dsimp only at hp
    refine ⟨fun _ => ⟨h.rdX, sp_X1_looks h hk (fun y1 hq1 g1 u1 hs1 => ⟨_, ⟨_, g1.cx, rfl⟩, _, rfl, ⟨_, Or.inl hs1⟩, sp_cls g1.2.2.2.1 hs1 ?_⟩)⟩, fun z => (by cases z)⟩
    have hok : stOk (mS M)[k] := (g1.2.2.1.2.2.2.2.2 k hk hq1).2.2.2
    have o6 := hok.2.2.2.2.2.1
    have o7 := hok.2.2.2.2.2.2
    have hlen : (sSecs (mS M)[k] ++ sProcs (mS M)[k]).length = (sSecs (mS M)[k]).length + (sProcs (mS M)[k]).length := List.length_append
    refine ⟨fun n y2 u x17 x18 => ∃ g2 j, XRg G y2 X M g2 ∧ x18 = nI j ∧ j ≤ (sSecs (mS M)[k] ++ sProcs (mS M)[k]).length ∧ n = (sSecs (mS M)[k] ++ sProcs (mS M)[k]).length - j ∧ u = 3 * j ∧ x17 = mtF (mE M) (mS M)[k] j, ⟨_, g, 0, g1, rfl, Nat.zero_le _, rfl, rfl, nI_0⟩, ?_⟩
    rintro n y2 u x17 x18 ⟨g2, j, hg2, rfl, hj, rfl, rfl, rfl⟩
    refine ⟨by omega, _, ⟨_, hg2.cx, rfl⟩, _, rfl, hg2.ls, sp_stayAt hg2 hk (fun hq2 hst2 _ => ⟨hst2.of, _, rfl, ⟨_, Or.inl hst2.1⟩, sp_codes hg2.1 hst2 ?_⟩)⟩
    rw [← hlen]
    refine ⟨fun hge => ?_, fun hlt => ?_⟩
    · have hh := nle_of (by omega) hj hge
      rw [hh]
      exact hp y2 ⟨_, hg2⟩
    · have hj2 := nlt_of (by omega) hj hlt
      have hget : (sSecs (mS M)[k] ++ sProcs (mS M)[k]).getD j 0 = (sSecs (mS M)[k] ++ sProcs (mS M)[k])[j] := by
        rw [List.getD_eq_getElem?_getD, List.getElem?_eq_getElem hj2, Option.getD_some]
      refine ⟨_, ⟨_, hg2.cx, rfl⟩, _, rfl, hg2.ls, sp_stayAt hg2 hk (fun hq3 hst3 _ => ⟨hst3.of, _, rfl, ⟨_, Or.inl hst3.1⟩, sp_codeAt hg2.1 hst3 (by omega) ⟨hg2.rdX, 3, by omega, ?_⟩⟩)⟩
      have hm := row_mem hok (List.getElem_mem hj2)
      refine sp_without (by omega) hg2 hk (fun y' hn _ => absurd hm hn) (fun y' g' _ h' => ⟨fun he x45 hx45 => ⟨_, by omega, g', j + 1, h', by rw [nI_add], by omega, rfl, by omega, ?_⟩, fun hne x47 hx47 => ⟨_, by omega, g', j + 1, h', by rw [nI_add], by omega, rfl, by omega, ?_⟩⟩)
      · rw [mtF, hget, mtB, if_pos he, hx45, nI_0]
      · rw [mtF, hget, mtB, if_neg hne, hx47]
/-- what the first n codes cost -/
def wcs : Nat → Nat
  | 0 => 0
  | n + 1 => wcs n + wc (nI n)
theorem vcost_lo {n : Nat} (h : n ≤ 127) : vcost (nI n) = 0 := by
  unfold vcost
  rw [if_neg]
  intro z
  have e0 : (nI n).toInt = n := nI_toInt (by omega)
  rcases z with z | z
  · have := Int32.lt_iff_toInt_lt.mp z
    rw [e0, show ((-128 : Int32)).toInt = -128 by decide] at this
    omega
  · have := Int32.lt_iff_toInt_lt.mp z
    rw [e0, show ((127 : Int32)).toInt = 127 by decide] at this
    omega
theorem wcs_le : ∀ n, n ≤ 1500 → wcs n ≤ n + 3 * (n - 128) := by
  intro n
  induction n with
  | zero => intro _; exact Nat.le_refl _
  | succ n ih =>
    intro hn
    have := ih (by omega)
    rw [wcs, wc]
    by_cases h : n ≤ 127
    · rw [vcost_lo h]; omega
    · have := vcost_le (nI n); omega
theorem cx_raises {G : GP} {y : HS} {X B : Nat} {M : MS} {i : Int32} {post : Int32 → HS → Prop} (hB : 5616 ≤ B) (h : XR G y X M) (hp : ∀ y', XR G y' X M → post (aRaises (mE M) (mS M) i) y') : wp_X1_raises G B post y X i := by
  obtain ⟨g, h⟩ := h
  have hl : (mS M).length ≤ 24 := h.2.2.1.2.2.2.1
  refine ⟨h.rdX, sp_isStay h ?_⟩
  rcases isSt_or (n := (mS M).length) (by omega) i with e | ⟨k, hk, rfl⟩
  · rw [e]
    rw [aRaises, gst_none e] at hp
    exact ⟨fun z => (by cases z), fun _ => hp y ⟨g, h⟩⟩
  · rw [isSt_at (by omega) hk]
    rw [aRaises, gst_some (by omega) hk] at hp
    dsimp only at hp
    have hlr : (List.range 1500).length = 1500 := List.length_range
    refine ⟨fun _ => ⟨h.rdX, sp_X1_looks h hk (fun y1 hq1 g1 u1 hs1 => ⟨_, ⟨_, g1.cx, rfl⟩, _, rfl, ⟨_, Or.inl hs1⟩, sp_weight g1.2.2.2.1 hs1 ?_⟩)⟩, fun z => (by cases z)⟩
    refine ⟨fun n y2 u x17 => ∃ g2 c, XRg G y2 X M g2 ∧ x17 = nI c ∧ c ≤ 1500 ∧ n = 1500 - c ∧ u = wcs c ∧ ∀ j, j < c → rsB (mE M) (mS M)[k] j = false, ⟨_, g, 0, g1, rfl, Nat.zero_le _, rfl, rfl, fun j hj => absurd hj (Nat.not_lt_zero _)⟩, ?_⟩
    rintro n y2 u x17 ⟨g2, c, hg2, rfl, hc, rfl, rfl, hno⟩
    have hw := wcs_le c hc
    refine ⟨by omega, fun hgt => ?_, fun hgt => ⟨hg2.rdX, wc (nI c), ?_, ?_⟩⟩
    · have hh : 1499 < c := (nI_ltI (by omega) (by omega)).mp hgt
      have hc5 : c = 1500 := by omega
      have h3 := findIdx_no (xs := List.range 1500) (p := rsB (mE M) (mS M)[k]) (fun j hj => by rw [List.getElem_range]; exact hno j (by omega))
      have := hp y2 ⟨_, hg2⟩
      rw [fst9, if_neg h3] at this
      exact this
    · have hc2 : c < 1500 := by
        rcases Nat.lt_or_ge 1499 c with z | z
        · exact absurd (nI_lt z (by omega)) hgt
        · omega
      have hw2 := wcs_le (c + 1) (by omega)
      rw [wcs] at hw2
      omega
    · have hc2 : c < 1500 := by
        rcases Nat.lt_or_ge 1499 c with z | z
        · exact absurd (nI_lt z (by omega)) hgt
        · omega
      refine sp_with (Nat.le_refl _) hg2 hk (fun y' hb h' => ⟨fun _ => ⟨_, by omega, g2, c + 1, h', by rw [nI_add], by omega, rfl, rfl, fun j hj => ?_⟩, fun z => absurd rfl z⟩) (fun y' g' hb h' e1 e2 e3 hs => ⟨fun z => ?_, fun _ => ?_⟩)
      · by_cases ej : j = c
        · subst ej; rw [rsB, hb]; rfl
        · exact hno j (by omega)
      · have hE := h'.2.2.2.1
        rcases lkK_cases (s := sPut (mS M)[k] (nI c)) hE.2.2.2.2.2.2.2.2.1 hE.2.2.2.2.2.2.2.2.2.2.1 with z2 | ⟨j, hj, z2⟩
        · rw [z2] at z; exact absurd z (by decide)
        · have l16 := hE.2.2.2.2.2.2.2.2.2.1
          rw [z2] at z
          exact absurd (nI_pos (n := j) (by omega)) (by rw [z]; decide)
      · obtain ⟨v1, v2, v3, v4, v6, v7, hs⟩ := hs
        refine ⟨_, ⟨_, h'.cx, rfl⟩, _, rfl, ⟨_, Or.inl hs⟩, sp_weight h'.2.2.2.1 hs ⟨fun hle => ⟨_, by omega, g', c + 1, h', by rw [nI_add], by omega, rfl, rfl, fun j hj => ?_⟩, fun hle => ?_⟩⟩
        · by_cases ej : j = c
          · subst ej; rw [rsB, hb, decide_eq_false (Int32.not_lt.mpr hle)]; rfl
          · exact hno j (by omega)
        · have h3 := findIdx_at (xs := List.range 1500) (p := rsB (mE M) (mS M)[k]) (k := c) (by omega) (fun j hj hjc => by rw [List.getElem_range]; exact hno j hjc) (by rw [List.getElem_range, rsB, hb, decide_eq_true (Int32.not_le.mp hle)]; rfl)
          have := hp y' ⟨_, h'⟩
          rw [fst9, if_pos (by omega), h3] at this
          exact this
