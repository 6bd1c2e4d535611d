/-! The model's calls: leaves, comparing, counting, the tape -/
set_option maxRecDepth 100000
theorem tc_leaf {σ : TS} {M : MS} {l w : Int32} {post : Int32 → TS → Prop} (h : TR σ M) (hp : ∀ σ', TR σ' M → post (aLeaf (mE M) (mS M) l w) σ') : wp_leaf_2 post σ l w := by
  intro z1 hz1
  have h' : TR z1 M := by rw [hz1]; exact h.t
  obtain ⟨a, ha, en, hR, ho, hV⟩ := h'.now
  have hl := h'.sr.2.1
  have h40 : (eNd (mE M)).length ≤ 40 := hR.2.2.2.2.2.1.2.1
  obtain ⟨v1, v2, v3, v4⟩ := hV
  rw [v1]
  refine tsp_within ⟨fun hb => ?_, fun hb => ?_⟩
  · have hp' := hp z1 h'
    rw [aLeaf, show isSt (lvs (mE M)).length l = false from hb] at hp'
    exact hp'
  · rw [aLeaf, show isSt (lvs (mE M)).length l = true from hb] at hp
    obtain ⟨c, hc, rfl⟩ := (isSt_iff (by omega)).mp (show isSt (lvs (mE M)).length l = true from hb)
    simp only [if_true, ix, nI_clamp (show c < 2 ^ 31 by omega), List.getElem?_eq_getElem hc] at hp
    obtain ⟨u1, u2⟩ := v3 c hc
    simp only [List.getElem?_eq_getElem u2, Option.map_some, Option.getD_some] at hp
    obtain ⟨g1, g2, -⟩ := hR.2.2.2.2.2.1.2.2 _ u2
    have e01 : ¬ (nI 1 = nI 0) := by decide
    have e02 : ¬ (nI 2 = nI 0) := by decide
    have e12 : ¬ (nI 2 = nI 1) := by decide
    refine tsp_within ⟨fun hb2 => ⟨vp_inN (by omega) (by omega), fun x8 hx8 => ?_⟩, fun hb2 => ?_⟩
    · rw [nI_clamp (show c < 2 ^ 31 by omega), u1] at hx8
      subst hx8
      generalize (lvs (mE M))[c] = n at u1 u2 hp g1 g2
      rw [en, nI_mul, nI_add, nI_clamp (show 40 * a + n < 2 ^ 31 by omega), nI_clamp (show n < 2 ^ 31 by omega), g1, g2, v4 n (by omega)]
      have hvp : vp_in (nI (40 * a + n)) 120 := vp_inN (by omega) (by omega)
      refine ⟨fun hw0 => ⟨fun hw1 => ⟨fun hw2 => ?_, fun hw2 => ⟨vp_inN (by omega) (by omega), fun hz => ?_, fun hz => ?_⟩⟩, fun hw1 => ⟨hvp, ?_⟩⟩, fun hw0 => ⟨hvp, ?_⟩⟩
      · have hw3 : w = nI 3 := by
          have hb' := wthn_iff.mp hb2
          rw [nI_toInt (by omega), nI_toInt (by omega)] at hb'
          have h0 : w.toInt ≠ 0 := fun z => hw0 (Int32.toInt_inj.mp z)
          have h1 : w.toInt ≠ 1 := fun z => hw1 (Int32.toInt_inj.mp (z.trans (nI_toInt (n := 1) (by omega)).symm))
          have h2 : w.toInt ≠ 2 := fun z => hw2 (Int32.toInt_inj.mp (z.trans (nI_toInt (n := 2) (by omega)).symm))
          exact Int32.toInt_inj.mp ((show w.toInt = 3 by omega).trans (nI_toInt (n := 3) (by omega)).symm)
        rw [hw3, if_neg (by decide), if_neg (by decide), if_neg (by decide), if_pos rfl] at hp
        refine ⟨fun m z x17 x18 => TR z M ∧ ∃ j, x18 = nI j ∧ j ≤ (mS M).length ∧ m = (mS M).length - j ∧ x17 = nI (((mS M).take j).countP (atLf (mE M) n)), ⟨_, h', 0, rfl, Nat.zero_le _, rfl, rfl⟩, ?_⟩
        rintro m z2 x17 x18 ⟨hz2, j, rfl, hj, rfl, rfl⟩
        rw [hz2.sr.1]
        refine ⟨fun hge => ?_, fun hlt => ?_⟩
        · have hh := nle_of (by omega) hj hge
          rw [List.take_of_length_le (by omega)]
          exact hp z2 hz2
        · have hj2 := nlt_of (by omega) hj hlt
          obtain ⟨a2, ha2, en2, hR2, ho2, -⟩ := hz2.now
          rw [en2]
          refine tsp_leafFor hR2 ho2 hz2.sr hj2 (fun eN σ' q _ => ⟨fun hne => ⟨(mS M).length - (j + 1), by omega, hz2.q q, j + 1, by rw [nI_add], by omega, rfl, ?_⟩, fun he => ?_⟩) (fun n2 bs σ' x eN q _ _ hx hnl hn40 _ => ⟨fun hne => ⟨(mS M).length - (j + 1), by omega, hz2.q q, j + 1, by rw [nI_add], by omega, rfl, ?_⟩, fun he => ⟨(mS M).length - (j + 1), by omega, hz2.q q, j + 1, by rw [nI_add], by omega, rfl, ?_⟩⟩)
          · rw [countP_succ hj2, atLf, eN]; rfl
          · exact absurd (nI_pos (n := n) (by omega)) (by rw [← he]; decide)
          · have : ¬ n2 = n := fun z => hne (by rw [z])
            have hat : atLf (mE M) n (mS M)[j] = decide (n2 = n) := by rw [atLf, eN]
            rw [countP_succ hj2, hat, decide_eq_false this]; rfl
          · have : n2 = n := (nI_eq (by omega) (by omega)).mp he
            have hat : atLf (mE M) n (mS M)[j] = decide (n2 = n) := by rw [atLf, eN]
            rw [countP_succ hj2, hat, decide_eq_true this, nI_add]; rfl
      · have hp' := hp z1 h'
        rw [hw2, if_neg e02, if_neg e12, if_pos rfl, bi_z hz] at hp'
        exact hp'
      · have hp' := hp z1 h'
        rw [hw2, if_neg e02, if_neg e12, if_pos rfl, bi_n hz] at hp'
        exact hp'
      · have hp' := hp z1 h'
        rw [hw1, if_neg e01, if_pos rfl] at hp'
        exact hp'
      · have hp' := hp z1 h'
        rw [if_pos (by rw [nI_0]; exact hw0)] at hp'
        exact hp'
    · have hp' := hp z1 h'
      have hb' : ∀ z, z = w → ¬ (wthn z (nI 0) (nI 3) = true) := fun z e z2 => by rw [e, hb2] at z2; cases z2
      rw [if_neg (fun z => hb' _ z.symm (by decide)), if_neg (fun z => hb' _ z.symm (by decide)), if_neg (fun z => hb' _ z.symm (by decide)), if_neg (fun z => hb' _ z.symm (by decide))] at hp'
      exact hp'
theorem tc_count {σ : TS} {M : MS} {w : Int32} {post : Int32 → TS → Prop} (h : TR σ M) (hp : ∀ σ', TR σ' M → post (aCount (mE M) (mS M) (mT M) w) σ') : wp_count post σ w := by
  intro z1 hz1
  have h' : TR z1 M := by rw [hz1]; exact h.t
  obtain ⟨a, b9, c9, hh1, hh2, hh3, hh4, hh5, hh6, hh7, hh8, hh9, hh10, hh11⟩ := id h'
  obtain ⟨a, ha, en, hR, ho, hV⟩ := h'.now
  have hl := h'.sr.2.1
  have hp' := hp z1 h'
  rw [aCount] at hp'
  rw [en]
  refine ⟨fun e0 => tsp_chapters ha hR.2.1.1 ?_, fun e0 => ⟨fun e1 => tsp_ranks ha hR.2.2.1.1 ?_, fun e1 => ⟨fun e2 => tsp_partners ha hR.2.2.2.1.1 ?_, fun e2 => ⟨fun e3 => tsp_classes ha hR.2.2.2.2.1.1 ?_, fun e3 => ⟨fun e4 => ?_, fun e4 => ⟨fun e5 => ?_, fun e5 => ⟨fun e6 => ?_, fun e6 => ⟨fun e7 => ?_, fun e7 => ⟨fun e8 => ?_, fun e8 => ⟨fun e9 => ?_, fun e9 => ⟨fun e10 => tsp_nodes ha hR.2.2.2.2.2.1.1 ?_, fun e10 => ?_⟩⟩⟩⟩⟩⟩⟩⟩⟩⟩⟩
  · rw [if_pos e0] at hp'; exact hp'
  · rw [if_neg e0, if_pos e1] at hp'; exact hp'
  · rw [if_neg e0, if_neg e1, if_pos e2] at hp'; exact hp'
  · rw [if_neg e0, if_neg e1, if_neg e2, if_pos e3] at hp'; exact hp'
  · rw [if_neg e0, if_neg e1, if_neg e2, if_neg e3, if_pos e4] at hp'
    rw [hV.1]; exact hp'
  · rw [if_neg e0, if_neg e1, if_neg e2, if_neg e3, if_neg e4, if_pos e5] at hp'
    refine ⟨fun n z x21 x22 => z = z1 ∧ ∃ j, x22 = nI j ∧ j ≤ (lvs (mE M)).length ∧ n = (lvs (mE M)).length - j ∧ x21 = nI (((lvs (mE M)).take j).countP (fun n => !(rch (mE M) n))), ⟨_, rfl, 0, rfl, Nat.zero_le _, rfl, rfl⟩, ?_⟩
    rintro n z x21 x22 ⟨hz, j, rfl, hj, rfl, rfl⟩
    subst hz
    obtain ⟨v1, v2, v3, v4⟩ := hV
    have h40 : (eNd (mE M)).length ≤ 40 := hR.2.2.2.2.2.1.2.1
    rw [v1]
    refine ⟨fun hge => ?_, fun hlt => ?_⟩
    · have hh := nle_of (by omega) hj hge
      rw [List.take_of_length_le (by omega)]
      exact hp'
    · have hj2 := nlt_of (by omega) hj hlt
      obtain ⟨u1, u2⟩ := v3 j hj2
      rw [nI_clamp (show j < 2 ^ 31 by omega), u1, nI_clamp (show (lvs (mE M))[j] < 2 ^ 31 by omega), v4 _ (by omega)]
      refine ⟨vp_inN (by omega) (by omega), vp_inN (by omega) (by omega), fun hne => ⟨(lvs (mE M)).length - (j + 1), by omega, rfl, j + 1, by rw [nI_add], by omega, rfl, ?_⟩, fun he => ⟨(lvs (mE M)).length - (j + 1), by omega, rfl, j + 1, by rw [nI_add], by omega, rfl, ?_⟩⟩
      · rw [countP_succ hj2, bi_n hne]; rfl
      · rw [countP_succ hj2, bi_z he, nI_add]; rfl
  · rw [if_neg e0, if_neg e1, if_neg e2, if_neg e3, if_neg e4, if_neg e5, if_pos e6] at hp'
    rw [h'.sr.1]; exact hp'
  · rw [aCount, if_neg e0, if_neg e1, if_neg e2, if_neg e3, if_neg e4, if_neg e5, if_neg e6, if_pos e7] at hp
    refine ⟨fun n z x37 x38 => TR z M ∧ ∃ j, x38 = nI j ∧ j ≤ (mS M).length ∧ n = (mS M).length - j ∧ x37 = sumW (lkW (mE M)) ((mS M).take j), ⟨_, h', 0, rfl, Nat.zero_le _, rfl, nI_0⟩, ?_⟩
    rintro n z x37 x38 ⟨hz, j, rfl, hj, rfl, rfl⟩
    rw [hz.sr.1]
    refine ⟨fun hge => ?_, fun hlt => ?_⟩
    · have hh := nle_of (by omega) hj hge
      rw [List.take_of_length_le (by omega)]
      exact hp z hz
    · have hj2 := nlt_of (by omega) hj hlt
      obtain ⟨a2, ha2, en2, hR2, ho2, -⟩ := hz.now
      rw [en2]
      exact tsp_weightFor hR2 ho2 hz.sr hj2 (fun σ' q x43 hx43 => ⟨(mS M).length - (j + 1), by omega, hz.q q, j + 1, by rw [nI_add], by omega, rfl, by rw [sumW_succ hj2, hx43]⟩)
  · rw [aCount, if_neg e0, if_neg e1, if_neg e2, if_neg e3, if_neg e4, if_neg e5, if_neg e6, if_neg e7, if_pos e8] at hp
    refine ⟨fun n z x53 x54 => TR z M ∧ ∃ j, x54 = nI j ∧ j ≤ (mS M).length ∧ n = (mS M).length - j ∧ x53 = nI (((mS M).take j).countP (fun s => decide (lkK (mE M) s < 0))), ⟨_, h', 0, rfl, Nat.zero_le _, rfl, rfl⟩, ?_⟩
    rintro n z x53 x54 ⟨hz, j, rfl, hj, rfl, rfl⟩
    rw [hz.sr.1]
    refine ⟨fun hge => ?_, fun hlt => ?_⟩
    · have hh := nle_of (by omega) hj hge
      rw [List.take_of_length_le (by omega)]
      exact hp z hz
    · have hj2 := nlt_of (by omega) hj hlt
      obtain ⟨a2, ha2, en2, hR2, ho2, -⟩ := hz.now
      rw [en2]
      refine tsp_classFor hR2 ho2 hz.sr hj2 (fun σ' q => ⟨fun hge => ⟨(mS M).length - (j + 1), by omega, hz.q q, j + 1, by rw [nI_add], by omega, rfl, ?_⟩, fun hge => ⟨(mS M).length - (j + 1), by omega, hz.q q, j + 1, by rw [nI_add], by omega, rfl, ?_⟩⟩)
      · rw [countP_succ hj2, decide_eq_false (Int32.not_lt.mpr hge)]; rfl
      · rw [countP_succ hj2, decide_eq_true (Int32.not_le.mp hge), nI_add]; rfl
  · rw [if_neg e0, if_neg e1, if_neg e2, if_neg e3, if_neg e4, if_neg e5, if_neg e6, if_neg e7, if_neg e8, if_pos e9] at hp'
    rw [hh10.1]; exact hp'
  · rw [if_neg e0, if_neg e1, if_neg e2, if_neg e3, if_neg e4, if_neg e5, if_neg e6, if_neg e7, if_neg e8, if_neg e9, if_pos e10] at hp'; exact hp'
  · rw [if_neg e0, if_neg e1, if_neg e2, if_neg e3, if_neg e4, if_neg e5, if_neg e6, if_neg e7, if_neg e8, if_neg e9, if_neg e10] at hp'; exact hp'
/-- the edition that is kept -/
theorem TR.kept {σ : TS} {M : MS} (h : TR σ M) : (mK M = none ∧ sx σ 32 = 0) ∨ ∃ K b, mK M = some K ∧ ¬ sx σ 32 = 0 ∧ b < 3 ∧ sx σ 30 = nI b ∧ RepT σ b K ∧ EdOk K := by
  obtain ⟨a, b, c, h1, h2, h3, h4, h5, h6, h7, h8, h9, h10, h11⟩ := h
  cases e : mK M with
  | none =>
    rw [e] at h7
    exact Or.inl ⟨rfl, h7⟩
  | some K =>
    rw [e] at h7
    exact Or.inr ⟨K, b, rfl, by rw [h7.1]; decide, h1.2.1, h3, h7.2.1, h7.2.2⟩
theorem tc_keptWeight {σ : TS} {M : MS} {i : Int32} {post : Int32 → TS → Prop} (h : TR σ M) (hp : ∀ σ', TR σ' M → post (aKeptW (mK M) (mS M) i) σ') : wp_keptWeight post σ i := by
  intro z1 hz1
  have h' : TR z1 M := by rw [hz1]; exact h.t
  have hS := h'.sr
  have hl := hS.2.1
  rcases h'.kept with ⟨eK, e32⟩ | ⟨K, b, eK, e32, hb, e30, hR, ho⟩
  · have hp' := hp z1 h'
    rw [eK, aKeptW] at hp'
    exact ⟨fun _ => hp', fun z => absurd e32 z⟩
  · rw [eK, aKeptW] at hp
    refine ⟨fun z => absurd z e32, fun _ => tsp_isStay hS ?_⟩
    rcases isSt_or (n := (mS M).length) (by omega) i with e | ⟨k, hk, rfl⟩
    · have hp' := hp z1 h'
      rw [gst_none e] at hp'
      rw [e]
      exact ⟨fun _ => hp', fun z => by cases z⟩
    · rw [isSt_at (by omega) hk, e30]
      rw [gst_some (by omega) hk] at hp
      exact ⟨fun z => (by cases z), fun _ => tsp_weightFor hR ho hS hk (fun σ' q => hp σ' (h'.q q))⟩
theorem nm_ok {E : Ed} {k : Int32} {j : Nat} (ho : EdOk E) (hj : j < (eCl E).length) (hl : (eCl E).length ≤ 16) (hk : k = nI j) : nmOf E k = (eCl E)[j].1 ∧ isNm (eCl E)[j].1 := by
  subst hk
  refine ⟨?_, ho.2.2.2 _ (List.getElem_mem hj)⟩
  rw [nmOf, ix, nI_clamp (by omega), List.getElem?_eq_getElem hj]
  rfl
theorem tsp_isMoved {σ : TS} {M : MS} {K : Ed} {k : Nat} {post : Bool → TS → Prop} (h : TR σ M) (eK : mK M = some K) (hk : k < (mS M).length) (hp : ∀ σ', TR σ' M → post (mvd (mE M) K (mS M)[k]) σ') : wp_isMoved post σ (nI k) := by
  obtain ⟨a, ha, en, hR, ho, hV⟩ := h.now
  refine ⟨fun z x4 x5 => TR z M ∧ x4 = lkK (mE M) (mS M)[k] ∧ x5 = lkK K (mS M)[k] ∧ (x4 < 0 ∨ x5 < 0), ?_, ?_⟩
  · rintro z x4 x5 ⟨hz, rfl, rfl, hor⟩
    have hp' := hp z hz
    rw [mvd, if_pos hor] at hp'
    refine ⟨fun hge => ?_, fun hge => ⟨fun hlt => ?_, fun hlt => ?_⟩⟩
    · rw [decide_eq_false (Int32.not_lt.mpr hge)] at hp'; exact hp'
    · rw [decide_eq_true (Int32.not_le.mp hge), decide_eq_true hlt] at hp'; exact hp'
    · rw [decide_eq_true (Int32.not_le.mp hge), decide_eq_false hlt] at hp'; exact hp'
  · rw [en]
    refine tsp_classFor hR ho h.sr hk (fun σ1 q1 => ?_)
    have h1 := h.q q1
    rcases h1.kept with ⟨eK0, -⟩ | ⟨K2, b, eK2, -, hb, e30, hRK, hoK⟩
    · rw [eK] at eK0; cases eK0
    · rw [eK] at eK2
      cases eK2
      rw [e30]
      refine tsp_classFor hRK hoK h1.sr hk (fun σ2 q2 => ?_)
      have h2 := h1.q q2
      refine ⟨fun hneg => ⟨h2, rfl, rfl, Or.inl hneg⟩, fun hpos => ⟨fun hge => ?_, fun hge => ⟨h2, rfl, rfl, Or.inr (Int32.not_le.mp hge)⟩⟩⟩
      have q12 := q1.tr q2
      have hl16 : (eCl (mE M)).length ≤ 16 := hR.2.2.2.2.1.2.1
      have hlK16 : (eCl K).length ≤ 16 := hRK.2.2.2.2.1.2.1
      rcases lkK_cases (s := (mS M)[k]) ho hR.2.2.2.2.2.1.2.1 with e | ⟨j, hj, e⟩
      · rw [e] at hpos; exact absurd (by decide) hpos
      · rcases lkK_cases (s := (mS M)[k]) hoK hRK.2.2.2.2.2.1.2.1 with e2 | ⟨j2, hj2, e2⟩
        · rw [e2] at hge; exact absurd hge (by decide)
        · have hp' := hp σ2 h2
          obtain ⟨n1, n2⟩ := nm_ok ho hj hl16 e
          obtain ⟨n3, n4⟩ := nm_ok hoK hj2 hlK16 e2
          rw [mvd, if_neg (by rw [e, e2]; exact fun z => by rcases z with z | z; exact nI_pos (by omega) z; exact nI_pos (by omega) z), n1, n3] at hp'
          have w1 : sx σ2 29 = nI a := (q12.1 _ (by omega) (by omega) (by omega) (by omega)).trans en
          have w2 : sx σ2 30 = nI b := (q2.1 _ (by omega) (by omega) (by omega) (by omega)).trans e30
          rw [e, e2, w1, w2, nI_mul 16 a, nI_mul 16 b, nI_add (16 * a) j, nI_add (16 * b) j2, nI_clamp (show 16 * a + j < 2 ^ 31 by omega), nI_clamp (show 16 * b + j2 < 2 ^ 31 by omega), ((hR.q q12).2.2.2.2.1.2.2 j hj).1, ((hRK.q q2).2.2.2.2.1.2.2 j2 hj2).1]
          refine ⟨vp_inN (by omega) (by omega), vp_inN (by omega) (by omega), fun he => ?_, fun hne => ?_⟩
          · rw [decide_eq_true ((pk_inj n2 n4).mp he)] at hp'; exact hp'
          · rw [decide_eq_false (fun z => hne ((pk_inj n2 n4).mpr z))] at hp'; exact hp'
theorem fst9_cases {α : Type} {xs : List α} {p : α → Bool} (hl : xs.length < 1000) : (fst9 xs p = -1 ∧ ∀ j (hj : j < xs.length), p xs[j] = false) ∨ ∃ k, k < xs.length ∧ fst9 xs p = nI k := by
  unfold fst9
  by_cases h : xs.findIdx p < xs.length
  · rw [if_pos h]
    exact Or.inr ⟨_, h, rfl⟩
  · rw [if_neg h]
    refine Or.inl ⟨rfl, fun j hj => ?_⟩
    cases e : p xs[j] with
    | false => rfl
    | true => exact absurd (List.findIdx_lt_length_of_exists ⟨_, List.getElem_mem hj, e⟩) h
theorem fst9_take {α : Type} {xs : List α} {p : α → Bool} {j : Nat} (hj : j < xs.length) (hl : xs.length < 1000) : fst9 (xs.take (j + 1)) p = if 0 ≤ fst9 (xs.take j) p then fst9 (xs.take j) p else if p xs[j] then nI j else -1 := by
  have hlt : (xs.take j).length = j := by rw [List.length_take]; omega
  rw [List.take_succ_eq_append_getElem hj]
  rcases fst9_cases (xs := xs.take j) (p := p) (by omega) with ⟨e, hno⟩ | ⟨k, hk, e⟩
  · rw [e, if_neg (by decide)]
    by_cases hp : p xs[j] = true
    · rw [if_pos hp]
      have h3 := findIdx_at (xs := xs.take j ++ [xs[j]]) (p := p) (k := j) (by rw [List.length_append, List.length_singleton]; omega) (fun i hi hij => by rw [List.getElem_append_left (by omega)]; exact hno i (by omega)) (by rw [List.getElem_append_right (by omega)]; simp only [hlt, Nat.sub_self, List.getElem_cons_zero]; exact hp)
      rw [fst9, h3, if_pos (by rw [List.length_append, List.length_singleton]; omega)]
    · rw [if_neg hp]
      have h3 := findIdx_no (xs := xs.take j ++ [xs[j]]) (p := p) (fun i hi => by
        rw [List.length_append, List.length_singleton, hlt] at hi
        by_cases e2 : i = j
        · subst e2
          rw [List.getElem_append_right (by omega)]
          simp only [hlt, Nat.sub_self, List.getElem_cons_zero]
          exact Bool.eq_false_iff.mpr hp
        · rw [List.getElem_append_left (by omega)]
          exact hno i (by omega))
      rw [fst9, if_neg h3]
  · rw [e, if_pos (nI_pos' (by omega))]
    have h4 : (xs.take j).findIdx p < (xs.take j).length := by
      by_cases z : (xs.take j).findIdx p < (xs.take j).length
      · exact z
      · rw [fst9, if_neg z] at e
        exact absurd (nI_pos (n := k) (by omega)) (by rw [← e]; decide)
    rw [fst9, if_pos h4] at e
    rw [fst9, List.findIdx_append, if_pos h4, if_pos (by rw [List.length_append]; omega), e]
theorem tc_compare {σ : TS} {M : MS} {w : Int32} {post : Int32 → TS → Prop} (h : TR σ M) (hp : ∀ σ', TR σ' M → post (aCompare (mE M) (mK M) (mS M) w) σ') : wp_compare post σ w := by
  intro z1 hz1
  have h' : TR z1 M := by rw [hz1]; exact h.t
  have hS := h'.sr
  have hl := hS.2.1
  rcases h'.kept with ⟨eK, e32⟩ | ⟨K, b, eK, e32, hb, e30, hR, ho⟩
  · have hp' := hp z1 h'
    rw [eK, aCompare] at hp'
    exact ⟨fun _ => hp', fun z => absurd e32 z⟩
  · rw [eK, aCompare] at hp
    refine ⟨fun z => absurd z e32, fun _ => tsp_within ⟨fun hb2 => ?_, fun hb2 => ?_⟩⟩
    · rw [hb2] at hp
      simp only [if_true] at hp
      refine ⟨fun n z x11 x12 x13 x14 => TR z M ∧ ∃ j, x14 = nI j ∧ j ≤ (mS M).length ∧ n = (mS M).length - j ∧ x11 = nI (((mS M).take j).countP (mvd (mE M) K)) ∧ x12 = fst9 ((mS M).take j) (mvd (mE M) K) ∧ x13 = sumW (fun s => lkW K s - lkW (mE M) s) ((mS M).take j), ⟨_, h', 0, rfl, Nat.zero_le _, rfl, rfl, rfl, nI_0⟩, ?_⟩
      rintro n z x11 x12 x13 x14 ⟨hz, j, rfl, hj, rfl, rfl, rfl, rfl⟩
      rw [hz.sr.1]
      refine ⟨fun hge => ?_, fun hlt => ?_⟩
      · have hh := nle_of (by omega) hj hge
        rw [List.take_of_length_le (by omega)]
        have hp' := hp z hz
        refine ⟨fun hw0 => ⟨fun hw1 => ?_, fun hw1 => ?_⟩, fun hw0 => ?_⟩
        · rw [if_neg hw0, if_neg hw1] at hp'; exact hp'
        · rw [if_neg hw0, if_pos hw1] at hp'; exact hp'
        · rw [if_pos hw0] at hp'; exact hp'
      · have hj2 := nlt_of (by omega) hj hlt
        rcases hz.kept with ⟨eK0, -⟩ | ⟨K2, b2, eK2, -, hb3, e302, hRK, hoK⟩
        · rw [eK] at eK0; cases eK0
        · rw [eK] at eK2
          cases eK2
          rw [e302]
          refine tsp_weightFor hRK hoK hz.sr hj2 (fun σ1 q1 => ?_)
          have h1 := hz.q q1
          obtain ⟨a2, ha2, en2, hR2, ho2, -⟩ := h1.now
          rw [en2]
          refine tsp_weightFor hR2 ho2 h1.sr hj2 (fun σ2 q2 x23 hx23 => ?_)
          have h2 := h1.q q2
          refine tsp_isMoved h2 eK hj2 (fun σ3 h3 => ⟨fun hm => ⟨fun hge => ⟨(mS M).length - (j + 1), by omega, h3, j + 1, by rw [nI_add], by omega, rfl, ?_, ?_, ?_⟩, fun hge => ⟨(mS M).length - (j + 1), by omega, h3, j + 1, by rw [nI_add], by omega, rfl, ?_, ?_, ?_⟩⟩, fun hm => ⟨(mS M).length - (j + 1), by omega, h3, j + 1, by rw [nI_add], by omega, rfl, ?_, ?_, ?_⟩⟩)
          · rw [countP_succ hj2, hm, nI_add]; rfl
          · rw [fst9_take hj2 (by omega), if_pos hge]
          · rw [sumW_succ hj2, hx23]
          · rw [countP_succ hj2, hm, nI_add]; rfl
          · rw [fst9_take hj2 (by omega), if_neg hge, if_pos hm]
          · rw [sumW_succ hj2, hx23]
          · rw [countP_succ hj2, hm]; rfl
          · rw [fst9_take hj2 (by omega), hm]
            by_cases hge : 0 ≤ fst9 ((mS M).take j) (mvd (mE M) K)
            · rw [if_pos hge]
            · rw [if_neg hge]
              rcases fst9_cases (xs := (mS M).take j) (p := mvd (mE M) K) (by rw [List.length_take]; omega) with ⟨e, -⟩ | ⟨k2, hk2, e⟩
              · rw [e]; rfl
              · rw [List.length_take] at hk2
                rw [e] at hge
                exact absurd (nI_pos' (by omega)) hge
          · rw [sumW_succ hj2, hx23]
    · have hp' := hp z1 h'
      rw [hb2] at hp'
      exact hp'
