/-! The model's calls: questions -/
set_option maxRecDepth 100000
theorem tc_of {σ : TS} {M : MS} {i w : Int32} {post : Int32 → TS → Prop} (h : TR σ M) (hp : ∀ σ', TR σ' M → post (aOf (mE M) (mS M) i w) σ') : wp_of post σ i w := by
  intro z1 hz1
  have h' : TR z1 M := by rw [hz1]; exact h.t
  have hS := h'.sr
  have hl := hS.2.1
  obtain ⟨a, ha, en, hR, ho, hV⟩ := h'.now
  refine tsp_isStay hS ?_
  rcases isSt_or (n := (mS M).length) (by omega) i with e | ⟨k, hk, rfl⟩
  · rw [aOf, gst_none e] at hp
    rw [e]
    exact ⟨fun z => (by cases z), fun _ => hp z1 h'⟩
  · rw [isSt_at (by omega) hk]
    rw [aOf, gst_some (by omega) hk] at hp
    dsimp only at hp
    obtain ⟨m1, m2, m3, m4, m5, m6, m7, o⟩ := hS.2.2 k hk
    have hv24 : vp_in (nI k) 24 := vp_inN (by omega) (by omega)
    rw [nI_clamp (show k < 2 ^ 31 by omega), en, m1, m2, m3, m4, m6]
    refine ⟨fun _ => ⟨fun e0 => ⟨hv24, ?_⟩, fun e0 => ⟨fun e1 => ⟨hv24, ?_⟩, fun e1 => ⟨fun e2 => ⟨hv24, ?_⟩, fun e2 => ⟨fun e3 => ⟨hv24, ?_⟩, fun e3 => ⟨fun e4 => ⟨hv24, ?_⟩, fun e4 => ⟨fun e5 => tsp_chapterFor ha (by omega) hR.2.1 m1 ?_, fun e5 => ⟨fun e6 => tsp_topOf ha hR.2.2.1 hS hk ?_, fun e6 => ⟨fun e7 => tsp_levelOf ha hR.2.2.2.1 hS hk ?_, fun e7 => ⟨fun e8 => tsp_classFor hR ho hS hk (fun σ' q => ?_), fun e8 => ⟨fun e9 => tsp_weightFor hR ho hS hk (fun σ' q => ?_), fun e9 => ⟨fun e10 => tsp_leafFor hR ho hS hk (fun eN σ' q _ => ⟨fun z => absurd z (by decide), fun _ => ?_⟩) (fun n bs σ' x eN q w5 _ hx hnl hn40 _ => ⟨fun _ => ?_, fun z => absurd (nI_pos' (by omega)) z⟩), fun e10 => ⟨fun e11 => tsp_leafFor hR ho hS hk (fun eN σ' q _ => ⟨fun z => absurd z (by decide), fun _ => ?_⟩) (fun n bs σ' x eN q w5 _ hx hnl hn40 _ => ⟨fun _ => ?_, fun z => absurd (nI_pos' (by omega)) z⟩), fun e11 => ?_⟩⟩⟩⟩⟩⟩⟩⟩⟩⟩⟩⟩, fun z => by cases z⟩
    · have := hp z1 h'; rw [if_pos e0] at this; exact this
    · have := hp z1 h'; rw [if_neg e0, if_pos e1] at this; exact this
    · have := hp z1 h'; rw [if_neg e0, if_neg e1, if_pos e2] at this; exact this
    · have := hp z1 h'; rw [if_neg e0, if_neg e1, if_neg e2, if_pos e3] at this; exact this
    · have := hp z1 h'; rw [if_neg e0, if_neg e1, if_neg e2, if_neg e3, if_pos e4] at this; exact this
    · have := hp z1 h'; rw [if_neg e0, if_neg e1, if_neg e2, if_neg e3, if_neg e4, if_pos e5] at this; exact this
    · have := hp z1 h'; rw [if_neg e0, if_neg e1, if_neg e2, if_neg e3, if_neg e4, if_neg e5, if_pos e6] at this; exact this
    · have := hp z1 h'; rw [if_neg e0, if_neg e1, if_neg e2, if_neg e3, if_neg e4, if_neg e5, if_neg e6, if_pos e7] at this; exact this
    · have := hp σ' (h'.q q); rw [if_neg e0, if_neg e1, if_neg e2, if_neg e3, if_neg e4, if_neg e5, if_neg e6, if_neg e7, if_pos e8] at this; exact this
    · have := hp σ' (h'.q q); rw [if_neg e0, if_neg e1, if_neg e2, if_neg e3, if_neg e4, if_neg e5, if_neg e6, if_neg e7, if_neg e8, if_pos e9] at this; exact this
    · have := hp σ' (h'.q q); rw [if_neg e0, if_neg e1, if_neg e2, if_neg e3, if_neg e4, if_neg e5, if_neg e6, if_neg e7, if_neg e8, if_neg e9, if_pos e10, aWays, eN] at this; exact this
    · have := hp σ' (h'.q q); rw [if_neg e0, if_neg e1, if_neg e2, if_neg e3, if_neg e4, if_neg e5, if_neg e6, if_neg e7, if_neg e8, if_neg e9, if_pos e10, aWays, eN] at this; rw [w5]; exact this
    · have := hp σ' (h'.q q); rw [if_neg e0, if_neg e1, if_neg e2, if_neg e3, if_neg e4, if_neg e5, if_neg e6, if_neg e7, if_neg e8, if_neg e9, if_neg e10, if_pos e11, aLeafNo, eN] at this; exact this
    · have := hp σ' (h'.q q); rw [if_neg e0, if_neg e1, if_neg e2, if_neg e3, if_neg e4, if_neg e5, if_neg e6, if_neg e7, if_neg e8, if_neg e9, if_neg e10, if_pos e11, aLeafNo, eN] at this
      have hV' := hV.same (σ' := σ') (q.1 _ (by omega) (by omega) (by omega) (by omega)) (fun x j _ => q.2.2 x j (by omega))
      have hlen : sx σ' 66 = nI ((lvs (mE M)).map nI).length := by rw [List.length_map]; exact hV'.1
      rw [hlen]
      refine tsp_find (b := 0) rfl (by decide) (by rw [List.length_map]; show 0 + _ ≤ 40; have := hV'.2.1; omega) (fun j hj => ?_) this
      rw [List.length_map] at hj
      rw [List.getElem_map, Nat.zero_add]
      exact (hV'.2.2.1 j hj).1
    · have := hp z1 h'; rw [if_neg e0, if_neg e1, if_neg e2, if_neg e3, if_neg e4, if_neg e5, if_neg e6, if_neg e7, if_neg e8, if_neg e9, if_neg e10, if_neg e11] at this; exact this
theorem tc_way {σ : TS} {M : MS} {i j : Int32} {post : Int32 → TS → Prop} (h : TR σ M) (hp : ∀ σ', TR σ' M → post (aWay (mE M) (mS M) i j) σ') : wp_way post σ i j := by
  intro z1 hz1
  have h' : TR z1 M := by rw [hz1]; exact h.t
  have hS := h'.sr
  have hl := hS.2.1
  obtain ⟨a, ha, en, hR, ho, hV⟩ := h'.now
  refine tsp_isStay hS ?_
  rcases isSt_or (n := (mS M).length) (by omega) i with e | ⟨k, hk, rfl⟩
  · rw [aWay, gst_none e] at hp
    rw [e]
    exact ⟨fun z => (by cases z), fun _ => hp z1 h'⟩
  · rw [isSt_at (by omega) hk, en]
    rw [aWay, gst_some (by omega) hk] at hp
    dsimp only at hp
    refine ⟨fun _ => tsp_leafFor hR ho hS hk (fun eN σ' q w5 => ⟨fun _ => ?_, fun z => absurd (by decide) z⟩) (fun n bs σ' x eN q w5 hb hx hnl hn40 hb40 => ⟨fun z => absurd z (nI_pos (by omega)), fun _ => ?_⟩), fun z => by cases z⟩
    · have := hp σ' (h'.q q)
      rw [aWays, eN] at this
      dsimp only at this
      have h0 : isSt ([] : List Bool).length j = false := by
        rcases isSt_or (n := 0) (by omega) j with z | ⟨k2, hk2, -⟩
        · exact z
        · exact absurd hk2 (Nat.not_lt_zero _)
      rw [h0] at this
      exact this
    · have := hp σ' (h'.q q)
      rw [aWays, eN] at this
      dsimp only at this
      rw [w5]
      refine tsp_within ⟨fun hb2 => ?_, fun hb2 => ?_⟩
      · rw [show isSt bs.length j = false from hb2] at this
        exact this
      · rw [show isSt bs.length j = true from hb2] at this
        obtain ⟨k2, hk2, rfl⟩ := (isSt_iff (by omega)).mp (show isSt bs.length j = true from hb2)
        rw [nI_clamp (by omega), hb k2 hk2]
        refine ⟨vp_inN (by omega) (by omega), ?_⟩
        simp only [if_true, ix, nI_clamp (show k2 < 2 ^ 31 by omega), List.getD_eq_getElem?_getD, List.getElem?_eq_getElem hk2, Option.getD_some] at this
        exact this
theorem tc_partner {σ : TS} {M : MS} {i c w : Int32} {post : Int32 → TS → Prop} (h : TR σ M) (hp : ∀ σ', TR σ' M → post (aPartner (mE M) (mS M) i c w) σ') : wp_partner post σ i c w := by
  intro z1 hz1
  have h' : TR z1 M := by rw [hz1]; exact h.t
  have hS := h'.sr
  have hl := hS.2.1
  obtain ⟨a, ha, en, hR, ho, hV⟩ := h'.now
  refine tsp_isStay hS ?_
  rcases isSt_or (n := (mS M).length) (by omega) i with e | ⟨k, hk, rfl⟩
  · rw [aPartner, gst_none e] at hp
    rw [e]
    exact ⟨fun _ => hp z1 h', fun z => by cases z⟩
  · rw [isSt_at (by omega) hk]
    rw [aPartner, gst_some (by omega) hk] at hp
    dsimp only at hp
    obtain ⟨m1, m2, m3, m4, m5, m6, m7, o1, o2, o3, o4, o5, o6, o7⟩ := hS.2.2 k hk
    have hp' := hp z1 h'
    rw [nI_clamp (show k < 2 ^ 31 by omega), nI_mul]
    refine ⟨fun z => (by cases z), fun _ => tsp_within ⟨fun hb => ?_, fun hb => ⟨vp_inN (by omega) (by omega), ?_⟩⟩⟩
    · rw [hb] at hp'; exact hp'
    · rw [m4]
      refine tsp_find rfl (by decide) (by show 8 * k + _ ≤ 192; omega) m5 ⟨fun hge => ?_, fun hge => ?_⟩
      · have hm : c ∈ sSecs (mS M)[k] := Classical.byContradiction fun z => absurd ((plcI_neg (by omega)).mpr z) (Int32.not_lt.mpr hge)
        rw [hb, decide_eq_true hm] at hp'
        simp only [Bool.and_self, if_true] at hp'
        rw [en]
        refine ⟨fun hw => tsp_counts ha hR.2.2.2.1 hS hk ?_, fun hw => tsp_partnerFor ha hR.2.2.2.1 ?_⟩
        · rw [if_neg hw] at hp'
          refine ⟨fun hb2 => ?_, fun hb2 => ?_⟩
          · rw [hb2] at hp'; exact hp'
          · rw [hb2] at hp'; exact hp'
        · rw [if_pos hw] at hp'; exact hp'
      · have hm : c ∉ sSecs (mS M)[k] := (plcI_neg (by omega)).mp (Int32.not_le.mp hge)
        rw [decide_eq_false hm, Bool.and_false] at hp'; exact hp'
theorem tc_listed {σ : TS} {M : MS} {i kd j : Int32} {post : Int32 → TS → Prop} (h : TR σ M) (h0 : aListed (mS M) i kd j = none → ∀ σ', TR σ' M → sx σ' 2 = 1 → post (nI 0) σ') (h1 : ∀ v σ', aListed (mS M) i kd j = some v → TR σ' M → sx σ' 2 = 0 → post v σ') : wp_listed post σ i kd j := by
  have hS := h.sr
  have hl := hS.2.1
  have hq : ∀ v, QF σ (ux σ 2 v) := fun v => (QF.rf σ).ux (by omega)
  refine ⟨fun z b => z = σ ∧ (b = true → aListed (mS M) i kd j = none) ∧ (b = false → ∃ k r s, k < (mS M).length ∧ i = nI k ∧ gst (mS M) i = some s ∧ (kd = 0 ∨ kd = nI 1) ∧ j = nI r ∧ r < (if kd = 0 then sSecs s else sProcs s).length), ?_, fun z => z = σ ∧ aListed (mS M) i kd j = none, ?_, ?_⟩
  · rintro z b ⟨hz, hb1, hb2⟩ z5 hz5
    subst hz
    have hT5 : TR z5 M := by rw [hz5]; exact h.q (hq _)
    have s5 : sx z5 2 = bi b := by rw [hz5, sx_ux, if_pos rfl]
    have f5 : ∀ a b2, sf z5 a b2 = sf z a b2 := fun a b2 => by rw [hz5, sf_ux]
    rw [s5]
    refine ⟨fun hne => ?_, fun he => ?_⟩
    · have hbf : b = false := by
        cases b with
        | false => rfl
        | true => exact absurd rfl hne
      subst hbf
      obtain ⟨k, r, s, hk, rfl, hg, hkd, rfl, hr⟩ := hb2 rfl
      rw [gst_some (by omega) hk] at hg
      have hs := Option.some.inj hg
      subst hs
      obtain ⟨m1, m2, m3, m4, m5, m6, m7, o1, o2, o3, o4, o5, o6, o7⟩ := hS.2.2 k hk
      have hA : ∀ row, (if kd = 0 then sSecs (mS M)[k] else sProcs (mS M)[k]) = row → ∀ (hr : r < row.length), aListed (mS M) (nI k) kd (nI r) = some row[r] := by
        intro row hrow hr2
        have hl2 : row.length ≤ 8 := by rw [← hrow]; split <;> omega
        rw [aListed, gst_some (by omega) hk]
        dsimp only
        have hw : wthn kd (nI 0) (nI 1) = true := by
          rcases hkd with z | z
          · rw [z]; decide
          · rw [z]; decide
        rw [hw, if_pos rfl, hrow, isSt_at (by omega) hr2, if_pos rfl, ix, nI_clamp (by omega), List.getElem?_eq_getElem hr2]
      refine ⟨fun hk0 => ?_, fun hk0 => ?_⟩
      · have hr' : r < (sProcs (mS M)[k]).length := by rw [if_neg hk0] at hr; exact hr
        rw [nI_mul, nI_add, nI_clamp (show 6 * k + r < 2 ^ 31 by omega), f5, m7 r hr']
        exact ⟨vp_inN (by omega) (by omega), h1 _ _ (hA _ (if_neg hk0) hr') hT5 s5⟩
      · have hr' : r < (sSecs (mS M)[k]).length := by rw [if_pos hk0] at hr; exact hr
        rw [nI_mul, nI_add, nI_clamp (show 8 * k + r < 2 ^ 31 by omega), f5, m5 r hr']
        exact ⟨vp_inN (by omega) (by omega), h1 _ _ (hA _ (if_pos hk0) hr') hT5 s5⟩
    · have hbt : b = true := by
        cases b with
        | true => rfl
        | false => exact absurd he (by decide)
      subst hbt
      exact h0 (hb1 rfl) _ hT5 s5
  · rintro z ⟨hz, hN⟩
    exact ⟨hz, fun _ => hN, fun e => by cases e⟩
  · refine tsp_isStay hS ?_
    rcases isSt_or (n := (mS M).length) (by omega) i with e | ⟨k, hk, rfl⟩
    · rw [e]
      exact ⟨fun _ => ⟨rfl, by rw [aListed, gst_none e]⟩, fun z => by cases z⟩
    · rw [isSt_at (by omega) hk]
      obtain ⟨m1, m2, m3, m4, m5, m6, m7, o1, o2, o3, o4, o5, o6, o7⟩ := hS.2.2 k hk
      refine ⟨fun z => (by cases z), fun _ => tsp_within ⟨fun hb => ⟨rfl, ?_⟩, fun hb => ?_⟩⟩
      · rw [aListed, gst_some (by omega) hk]
        dsimp only
        rw [hb]; rfl
      · have hkd : kd = 0 ∨ kd = nI 1 := by
          have hb' := wthn_iff.mp hb
          rw [nI_toInt (by omega), nI_toInt (by omega)] at hb'
          rcases (show kd.toInt = 0 ∨ kd.toInt = 1 by omega) with z | z
          · exact Or.inl (Int32.toInt_inj.mp z)
          · exact Or.inr (Int32.toInt_inj.mp (z.trans (nI_toInt (n := 1) (by omega)).symm))
        have hl8 : (if kd = 0 then sSecs (mS M)[k] else sProcs (mS M)[k]).length ≤ 8 := by split <;> omega
        refine ⟨fun z19 x20 x21 => z19 = σ ∧ x20 = nI (if kd = 0 then sSecs (mS M)[k] else sProcs (mS M)[k]).length ∧ x21 = j, ?_, ?_, ?_⟩
        · rintro z19 x20 x21 ⟨hz, rfl, rfl⟩
          subst hz
          refine tsp_within ⟨fun hb2 => ⟨rfl, ?_⟩, fun hb2 => ⟨rfl, fun e => (by cases e), fun _ => ?_⟩⟩
          · rw [aListed, gst_some (by omega) hk]
            dsimp only
            rw [hb, if_pos rfl, show isSt (if kd = 0 then sSecs (mS M)[k] else sProcs (mS M)[k]).length x21 = false from hb2]
            rfl
          · obtain ⟨r, hr, rfl⟩ := (isSt_iff (by omega)).mp (show isSt (if kd = 0 then sSecs (mS M)[k] else sProcs (mS M)[k]).length x21 = true from hb2)
            exact ⟨k, r, _, hk, rfl, gst_some (by omega) hk, hkd, rfl, hr⟩
        · intro hk0
          rw [nI_clamp (show k < 2 ^ 31 by omega), m6]
          exact ⟨vp_inN (by omega) (by omega), rfl, by rw [if_neg hk0], rfl⟩
        · intro hk0
          rw [nI_clamp (show k < 2 ^ 31 by omega), m4]
          exact ⟨vp_inN (by omega) (by omega), rfl, by rw [if_pos hk0], rfl⟩
theorem set_back {ss : List St} {k : Nat} {s : St} (hk : k < ss.length) : (ss.set k s).set k ss[k] = ss := by
  rw [List.set_set]
  exact List.set_getElem_self hk
/-- with a code more -/
theorem tsp_withK {σ : TS} {M : MS} {a k : Nat} {c : Int32} {post : Int32 → TS → Prop} (h : TR σ M) (hk : k < (mS M).length) (en : sx σ 29 = nI a) (hm : sMay (mS M)[k] c = true) (hp : ∀ σ', TR σ' M → sx σ' 29 = nI a → post (lkK (mE M) (sPut (mS M)[k] c)) σ') : wp_adds (fun z5 => wp_classFor (fun r7 z6 => wp_takes (fun z8 => post r7 z8) z6 (nI k) c) z5 (sx z5 29) (nI k)) σ (nI k) c := by
  have hf := sFit.may hm
  refine tsp_adds h.sr hk hf (fun σ1 hS1 q1 => ?_)
  have h1 := h.s q1 hS1
  have e1 : sx σ1 29 = nI a := (q1.1 _).trans en
  obtain ⟨a2, ha2, en2, hR, ho, hV⟩ := h1.now
  have ea : a2 = a ∨ True := Or.inr trivial
  rw [en2]
  have hkl : k < ((mS M).set k (sPut (mS M)[k] c)).length := by rw [List.length_set]; exact hk
  refine tsp_classFor hR ho hS1 hkl (fun σ2 q2 => ?_)
  rw [List.getElem_set_self]
  have h2 := h1.q q2
  refine tsp_takes h2.sr hkl (by rw [List.getElem_set_self]; exact sRow_put) (fun σ3 hS3 q3 => ?_)
  rw [List.getElem_set_self, sDel_sPut hf.2.1, set_back hk] at hS3
  have h3 := h2.s q3 hS3
  exact hp σ3 h3 ((q3.1 _).trans ((q2.1 _ (by omega) (by omega) (by omega) (by omega)).trans e1))
theorem tsp_withW {σ : TS} {M : MS} {a k : Nat} {c : Int32} {post : Int32 → TS → Prop} (h : TR σ M) (hk : k < (mS M).length) (en : sx σ 29 = nI a) (hm : sMay (mS M)[k] c = true) (hp : ∀ σ', TR σ' M → sx σ' 29 = nI a → post (lkW (mE M) (sPut (mS M)[k] c)) σ') : wp_adds (fun z5 => wp_weightFor (fun r7 z6 => wp_takes (fun z8 => post r7 z8) z6 (nI k) c) z5 (sx z5 29) (nI k)) σ (nI k) c := by
  have hf := sFit.may hm
  refine tsp_adds h.sr hk hf (fun σ1 hS1 q1 => ?_)
  have h1 := h.s q1 hS1
  have e1 : sx σ1 29 = nI a := (q1.1 _).trans en
  obtain ⟨a2, ha2, en2, hR, ho, hV⟩ := h1.now
  rw [en2]
  have hkl : k < ((mS M).set k (sPut (mS M)[k] c)).length := by rw [List.length_set]; exact hk
  refine tsp_weightFor hR ho hS1 hkl (fun σ2 q2 => ?_)
  rw [List.getElem_set_self]
  have h2 := h1.q q2
  refine tsp_takes h2.sr hkl (by rw [List.getElem_set_self]; exact sRow_put) (fun σ3 hS3 q3 => ?_)
  rw [List.getElem_set_self, sDel_sPut hf.2.1, set_back hk] at hS3
  have h3 := h2.s q3 hS3
  exact hp σ3 h3 ((q3.1 _).trans ((q2.1 _ (by omega) (by omega) (by omega) (by omega)).trans e1))
theorem tsp_classWithout {σ : TS} {M : MS} {k : Nat} {c : Int32} {post : Int32 → TS → Prop} (h : TR σ M) (hk : k < (mS M).length) (hm : c ∈ sRow (mS M)[k] c) (hp : ∀ σ', TR σ' M → post (lkK (mE M) (sDel (mS M)[k] c)) σ') : wp_classWithout post σ (nI k) c := by
  have hok : stOk (mS M)[k] := (h.sr.2.2 k hk).2.2.2.2.2.2.2
  refine tsp_takes h.sr hk hm (fun σ1 hS1 q1 => ?_)
  have h1 := h.s q1 hS1
  obtain ⟨a2, ha2, en2, hR, ho, hV⟩ := h1.now
  rw [en2]
  have hkl : k < ((mS M).set k (sDel (mS M)[k] c)).length := by rw [List.length_set]; exact hk
  refine tsp_classFor hR ho hS1 hkl (fun σ2 q2 => ?_)
  rw [List.getElem_set_self]
  have h2 := h1.q q2
  refine tsp_adds h2.sr hkl (by rw [List.getElem_set_self]; exact sFit.del hok hm) (fun σ3 hS3 q3 => ?_)
  rw [List.getElem_set_self, sPut_sDel hok hm, set_back hk] at hS3
  exact hp σ3 (h2.s q3 hS3)
theorem tc_with {σ : TS} {M : MS} {i c : Int32} {post : Int32 → TS → Prop} (h : TR σ M) (hp : ∀ σ', TR σ' M → post (aWith (mE M) (mS M) i c) σ') : wp_with post σ i c := by
  intro z1 hz1
  have h' : TR z1 M := by rw [hz1]; exact h.t
  have hS := h'.sr
  have hl := hS.2.1
  rcases isSt_or (n := (mS M).length) (by omega) i with e | ⟨k, hk, rfl⟩
  · rw [aWith, gst_none e] at hp
    exact tsp_canCome0 hS e ⟨fun z => (by cases z), fun _ => hp z1 h'⟩
  · rw [aWith, gst_some (by omega) hk] at hp
    dsimp only at hp
    obtain ⟨a, ha, en, -⟩ := h'.now
    refine tsp_canCome hS hk ⟨fun hb => tsp_withK h' hk en hb (fun σ' h2 _ => ?_), fun hb => ?_⟩
    · have := hp σ' h2; rw [hb] at this; exact this
    · have := hp z1 h'; rw [hb] at this; exact this
theorem tc_without {σ : TS} {M : MS} {i c : Int32} {post : Int32 → TS → Prop} (h : TR σ M) (hp : ∀ σ', TR σ' M → post (aWithout (mE M) (mS M) i c) σ') : wp_without post σ i c := by
  intro z1 hz1
  have h' : TR z1 M := by rw [hz1]; exact h.t
  have hS := h'.sr
  have hl := hS.2.1
  rcases isSt_or (n := (mS M).length) (by omega) i with e | ⟨k, hk, rfl⟩
  · rw [aWithout, gst_none e] at hp
    exact tsp_canGo0 hS e ⟨fun _ => hp z1 h', fun z => by cases z⟩
  · rw [aWithout, gst_some (by omega) hk] at hp
    dsimp only at hp
    refine tsp_canGo hS hk ⟨fun hb => ?_, fun hb => ?_⟩
    · have := hp z1 h'; rw [if_neg (of_decide_eq_false hb)] at this; exact this
    · have hm := of_decide_eq_true hb
      exact tsp_classWithout h' hk hm (fun σ' h2 => by have := hp σ' h2; rw [if_pos hm] at this; exact this)
theorem row_mem {s : St} (ho : stOk s) {c : Int32} (h : c ∈ sSecs s ++ sProcs s) : c ∈ sRow s c := by
  obtain ⟨o1, o2, o3, o4, o5, o6, o7⟩ := ho
  unfold sRow
  rcases List.mem_append.mp h with z | z
  · rw [o4 c z]; exact z
  · rw [isDP (o5 c z)]; exact z
theorem tc_matters {σ : TS} {M : MS} {i : Int32} {post : Int32 → TS → Prop} (h : TR σ M) (hp : ∀ σ', TR σ' M → post (aMatters (mE M) (mS M) i) σ') : wp_matters post σ i := by
  intro z1 hz1
  have h' : TR z1 M := by rw [hz1]; exact h.t
  have hS := h'.sr
  have hl := hS.2.1
  obtain ⟨a, ha, en, hR, ho, hV⟩ := h'.now
  refine tsp_isStay hS ?_
  rcases isSt_or (n := (mS M).length) (by omega) i with e | ⟨k, hk, rfl⟩
  · rw [aMatters, gst_none e] at hp
    rw [e]
    exact ⟨fun z => (by cases z), fun _ => hp z1 h'⟩
  · rw [isSt_at (by omega) hk, en]
    rw [aMatters, gst_some (by omega) hk] at hp
    dsimp only at hp
    have hok : stOk (mS M)[k] := (hS.2.2 k hk).2.2.2.2.2.2.2
    have o6 := hok.2.2.2.2.2.1
    have o7 := hok.2.2.2.2.2.2
    have hv24 : vp_in (nI k) 24 := vp_inN (by omega) (by omega)
    have hlen : (sSecs (mS M)[k] ++ sProcs (mS M)[k]).length = (sSecs (mS M)[k]).length + (sProcs (mS M)[k]).length := List.length_append
    refine ⟨fun _ => tsp_classFor hR ho hS hk (fun σ0 q0 => ?_), fun z => by cases z⟩
    rw [nI_clamp (show k < 2 ^ 31 by omega), nI_mul 8 k, nI_mul 6 k]
    refine ⟨fun n z x12 x13 => TR z M ∧ ∃ j, x13 = nI j ∧ j ≤ (sSecs (mS M)[k]).length ∧ n = (sSecs (mS M)[k]).length - j ∧ x12 = mtF (mE M) (mS M)[k] j, ⟨_, h'.q q0, 0, rfl, Nat.zero_le _, rfl, nI_0⟩, ?_⟩
    rintro n z x12 x13 ⟨hz, j, rfl, hjl, rfl, rfl⟩
    obtain ⟨m1, m2, m3, m4, m5, m6, m7, -⟩ := hz.sr.2.2 k hk
    rw [nI_add (8 * k) j, nI_clamp (show 8 * k + j < 2 ^ 31 by omega), m4]
    refine ⟨hv24, fun hge => ?_, fun hlt => ?_⟩
    · have hjl2 := nle_of (by omega) hjl hge
      subst hjl2
      refine ⟨fun n z x21 x22 => TR z M ∧ ∃ j, x22 = nI j ∧ j ≤ (sProcs (mS M)[k]).length ∧ n = (sProcs (mS M)[k]).length - j ∧ x21 = mtF (mE M) (mS M)[k] ((sSecs (mS M)[k]).length + j), ⟨_, hz, 0, rfl, Nat.zero_le _, rfl, rfl⟩, ?_⟩
      rintro n z2 x21 x22 ⟨hz2, j, rfl, hjl3, rfl, rfl⟩
      obtain ⟨m1, m2, m3, m4, m5, m6, m7, -⟩ := hz2.sr.2.2 k hk
      rw [nI_add (6 * k) j, nI_clamp (show 6 * k + j < 2 ^ 31 by omega), m6]
      refine ⟨hv24, fun hge2 => ?_, fun hlt2 => ?_⟩
      · have hh := nle_of (by omega) hjl3 hge2
        have := hp z2 hz2
        rw [hlen, ← hh] at this
        exact this
      · have hj2 := nlt_of (by omega) hjl3 hlt2
        rw [m7 j hj2]
        have hget : (sSecs (mS M)[k] ++ sProcs (mS M)[k]).getD ((sSecs (mS M)[k]).length + j) 0 = (sProcs (mS M)[k])[j] := by
          rw [List.getD_eq_getElem?_getD, List.getElem?_append_right (by omega), Nat.add_sub_cancel_left, List.getElem?_eq_getElem hj2, Option.getD_some]
        refine ⟨vp_inN (by omega) (by omega), tsp_classWithout hz2 hk (row_mem hok (List.mem_append_right _ (List.getElem_mem hj2))) (fun σ' h2 => ⟨fun he => ⟨(sProcs (mS M)[k]).length - (j + 1), by omega, h2, j + 1, by rw [nI_add], by omega, rfl, ?_⟩, fun hne => ⟨hv24, fun x29 hx29 => ⟨(sProcs (mS M)[k]).length - (j + 1), by omega, h2, j + 1, by rw [nI_add], by omega, rfl, ?_⟩⟩⟩)⟩
        · rw [← Nat.add_assoc, mtF, hget, mtB, if_pos he]; simp
        · obtain ⟨n1, n2, n3, n4, -⟩ := h2.sr.2.2 k hk
          rw [n4, nI_add] at hx29
          rw [← Nat.add_assoc, mtF, hget, mtB, if_neg hne, hx29]
    · have hj2 := nlt_of (by omega) hjl hlt
      rw [m5 j hj2]
      have hget : (sSecs (mS M)[k] ++ sProcs (mS M)[k]).getD j 0 = (sSecs (mS M)[k])[j] := by
        rw [List.getD_eq_getElem?_getD, List.getElem?_append_left (by omega), List.getElem?_eq_getElem hj2, Option.getD_some]
      refine ⟨vp_inN (by omega) (by omega), tsp_classWithout hz hk (row_mem hok (List.mem_append_left _ (List.getElem_mem hj2))) (fun σ' h2 => ⟨fun he => ⟨(sSecs (mS M)[k]).length - (j + 1), by omega, h2, j + 1, by rw [nI_add], by omega, rfl, ?_⟩, fun hne x37 hx37 => ⟨(sSecs (mS M)[k]).length - (j + 1), by omega, h2, j + 1, by rw [nI_add], by omega, rfl, ?_⟩⟩)⟩
      · rw [mtF, hget, mtB, if_pos he]; simp
      · rw [mtF, hget, mtB, if_neg hne, hx37]
theorem tc_raises {σ : TS} {M : MS} {i : Int32} {post : Int32 → TS → Prop} (h : TR σ M) (hp : ∀ σ', TR σ' M → post (aRaises (mE M) (mS M) i) σ') : wp_raises post σ i := by
  intro z1 hz1
  have h' : TR z1 M := by rw [hz1]; exact h.t
  have hS := h'.sr
  have hl := hS.2.1
  obtain ⟨a, ha, en, hR, ho, hV⟩ := h'.now
  refine tsp_isStay hS ?_
  rcases isSt_or (n := (mS M).length) (by omega) i with e | ⟨k, hk, rfl⟩
  · rw [aRaises, gst_none e] at hp
    rw [e]
    exact ⟨fun z => (by cases z), fun _ => hp z1 h'⟩
  · rw [isSt_at (by omega) hk, en]
    rw [aRaises, gst_some (by omega) hk] at hp
    dsimp only at hp
    have hlr : (List.range 1500).length = 1500 := List.length_range
    refine ⟨fun _ => tsp_weightFor hR ho hS hk (fun σ0 q0 => ?_), fun z => by cases z⟩
    refine ⟨fun n z x => TR z M ∧ ∃ c, x = nI c ∧ c ≤ 1500 ∧ n = 1500 - c ∧ ∀ j, j < c → rsB (mE M) (mS M)[k] j = false, ⟨_, h'.q q0, 0, rfl, Nat.zero_le _, rfl, fun j hj => absurd hj (Nat.not_lt_zero _)⟩, ?_⟩
    rintro n z x ⟨hz, c, rfl, hc, rfl, hno⟩
    refine ⟨fun hge => ?_, fun hlt => ?_⟩
    · have hh := nle_of (by omega) hc hge
      have h3 := findIdx_no (xs := List.range 1500) (p := rsB (mE M) (mS M)[k]) (fun j hj => by rw [List.getElem_range]; exact hno j (by omega))
      have := hp z hz
      rw [fst9, if_neg h3] at this
      exact this
    · have hc2 := nlt_of (by omega) hc hlt
      refine tsp_canCome hz.sr hk ⟨fun hb => ?_, fun hb => ⟨1500 - (c + 1), by omega, hz, c + 1, by rw [nI_add], by omega, rfl, fun j hj => ?_⟩⟩
      · obtain ⟨a2, ha2, en2, -⟩ := hz.now
        refine tsp_withW hz hk en2 hb (fun σ' h2 _ => ⟨fun hle => ⟨1500 - (c + 1), by omega, h2, c + 1, by rw [nI_add], by omega, rfl, fun j hj => ?_⟩, fun hle => ?_⟩)
        · by_cases ej : j = c
          · subst ej; rw [rsB, hb, decide_eq_false (Int32.not_lt.mpr hle)]; rfl
          · exact hno j (by omega)
        · have h3 := findIdx_at (xs := List.range 1500) (p := rsB (mE M) (mS M)[k]) (k := c) (by omega) (fun j hj hjc => by rw [List.getElem_range]; exact hno j hjc) (by rw [List.getElem_range, rsB, hb, decide_eq_true (Int32.not_le.mp hle)]; rfl)
          have := hp σ' h2
          rw [fst9, if_pos (by omega), h3] at this
          exact this
      · by_cases ej : j = c
        · subst ej; rw [rsB, hb]; rfl
        · exact hno j (by omega)
