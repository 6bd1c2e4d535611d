/-! The model's edition(), whole -/
set_option maxRecDepth 100000
/-- what is kept, when only the draft's side and the parser's numbers change -/
theorem TR.dr {σ z : TS} {M : MS} {a b c : Nat} {F : Int32} (hs : a < 3 ∧ b < 3 ∧ c < 3 ∧ a ≠ b ∧ b ≠ c ∧ a ≠ c) (s29 : sx σ 29 = nI a) (s30 : sx σ 30 = nI b) (s31 : sx σ 31 = nI c) (RA : RepT σ a (mE M)) (ok : EdOk (mE M)) (K : KT σ b (mK M)) (S : SR σ (mS M)) (V : LV σ (mE M)) (hx : ∀ k, (k < 42 ∨ 61 < k) → k ≠ 1 → k ≠ 2 → k ≠ 33 → sx z k = sx σ k) (h1 : sx z 1 = 0) (h33 : sx z 33 = F) (hg : ∀ a j, ¬ ((a = 4 ∨ a = 18) ∧ j / Wd a = c) → sg z a j = sg σ a j) (hf : ∀ a j, ¬ (3 ≤ a ∧ a ≤ 28 ∧ j / Wd a = c) → ¬ (52 ≤ a ∧ a ≤ 58) → sf z a j = sf σ a j) : TR z (mE M, mK M, mS M, [], F) := by
  obtain ⟨ha, hb, hc, hab, hbc, hac⟩ := hs
  have rp : ∀ d E, d ≠ c → RepT σ d E → RepT z d E := by
    intro d E hd hR
    refine hR.same (fun a' j u1 u2 u3 => hf a' j (fun w => hd (u3.symm.trans w.2.2)) (by omega)) (fun a' j u1 u2 => hg a' j (fun w => hd (u2.symm.trans w.2)))
  refine ⟨a, b, c, ⟨ha, hb, hc, hab, hbc, hac⟩, (hx 29 (by omega) (by omega) (by omega) (by omega)).trans s29, (hx 30 (by omega) (by omega) (by omega) (by omega)).trans s30, (hx 31 (by omega) (by omega) (by omega) (by omega)).trans s31, rp a _ hac RA, ok, K.same (hx 32 (by omega) (by omega) (by omega) (by omega)) (fun E => rp b E hbc), ?_, V.same (hx 66 (by omega) (by omega) (by omega) (by omega)) (fun a' j w => hf a' j (by omega) (by omega)), ⟨h1, Nat.zero_le _, fun b hb => (by cases hb), fun j hj => (by cases hj)⟩, h33⟩
  obtain ⟨S1, S2, S3⟩ := S
  refine ⟨(hx 34 (by omega) (by omega) (by omega) (by omega)).trans S1, S2, fun k hk => ?_⟩
  have e : ∀ a' j, 35 ≤ a' → a' ≤ 41 → sf z a' j = sf σ a' j := fun a' j u1 u2 => hf a' j (by omega) (by omega)
  obtain ⟨q1, q2, q3, q4, q5, q6, q7, q8⟩ := S3 k hk
  refine ⟨(e _ _ (by omega) (by omega)).trans q1, (e _ _ (by omega) (by omega)).trans q2, (e _ _ (by omega) (by omega)).trans q3, (e _ _ (by omega) (by omega)).trans q4, fun j hj => (e _ _ (by omega) (by omega)).trans (q5 j hj), (e _ _ (by omega) (by omega)).trans q6, fun j hj => (e _ _ (by omega) (by omega)).trans (q7 j hj), q8⟩
theorem aEd_ok {M : MS} {n : Nat} {E : Ed} (h9 : (mT M).length ≤ 900) (eW : pWhole (mT M) = (n, .ok E)) : aEdition M = (nI n, (E, mK M, mS M, [], -1)) := by
  unfold aEdition
  rw [if_neg (by omega), eW]
theorem aEd_er {M : MS} {n f : Nat} (h9 : (mT M).length ≤ 900) (eW : pWhole (mT M) = (n, .error f)) : aEdition M = (-2 - nI f, (mE M, mK M, mS M, [], nI n)) := by
  unfold aEdition
  rw [if_neg (by omega), eW]
theorem tc_edition {σ : TS} {M : MS} {post : Int32 → TS → Prop} (h : TR σ M) (hok : (mT M).length ≤ 900 → ∀ n E, pWhole (mT M) = (n, .ok E) → EdOk E ∧ ∃ ct, EdCt E ct) (hp : ∀ σ', TR σ' (aEdition M).2 → post (aEdition M).1 σ') : wp_edition post σ := by
  obtain ⟨a, b, c, hs, s29, s30, s31, RA, okE, K, S, V, T, F⟩ := h
  have hc := hs.2.2.1
  intro z1 hz1 z2 hz2 z3 hz3 z4 hz4
  have f4 : ∀ a j, sf z4 a j = sf σ a j := fun a j => by rw [hz4, sf_ux, hz3, sf_ux, hz2, sf_ux, hz1, sf_ux]
  have g4 : ∀ a j, sg z4 a j = sg σ a j := fun a j => by rw [hz4, sg_ux, hz3, sg_ux, hz2, sg_ux, hz1, sg_ux]
  have x4 : ∀ k, k ≠ 1 → k ≠ 2 → k ≠ 33 → k ≠ 42 → sx z4 k = sx σ k := fun k u1 u2 u3 u4 => by rw [hz4, sx_ux, if_neg u3, hz3, sx_ux, if_neg u1, hz2, sx_ux, if_neg u4, hz1, sx_ux, if_neg u2]
  have x42 : sx z4 42 = nI (mT M).length := by rw [hz4, sx_ux, if_neg (by omega), hz3, sx_ux, if_neg (by omega), hz2, sx_ux, if_pos rfl, hz1, sx_ux, if_neg (by omega)]; exact T.1
  have x1 : sx z4 1 = 0 := by rw [hz4, sx_ux, if_neg (by omega), hz3, sx_ux, if_pos rfl]; rfl
  have x33 : sx z4 33 = -1 := by rw [hz4, sx_ux, if_pos rfl]
  have c4 : sx z4 31 = nI c := (x4 31 (by omega) (by omega) (by omega) (by omega)).trans s31
  have hTl := T.2.1
  rw [x42]
  refine ⟨fun hle => ?_, fun hle => ?_⟩
  · have h9 : (mT M).length ≤ 900 := (nI_leI (by omega) (by omega)).mp hle
    refine ⟨fun n z x => ∃ j, j ≤ 7 ∧ n = 7 - j ∧ x = nI j ∧ (∀ k, sx z k = sx z4 k) ∧ (∀ a j, sg z a j = sg z4 a j) ∧ (∀ a i, ¬ (a = 3 ∧ 7 * c ≤ i ∧ i < 7 * c + 7) → sf z a i = sf z4 a i) ∧ ∀ i, i < j → sf z 3 (7 * c + i) = 0, ⟨7, 0, by omega, rfl, rfl, fun _ => rfl, fun _ _ => rfl, fun _ _ _ => rfl, fun i hi => absurd hi (Nat.not_lt_zero _)⟩, ?_⟩
    rintro n7 z8 x11 ⟨j, hj, hn, hx11, k1, k2, k3, k4⟩
    rw [hx11]
    refine ⟨fun h7 z14 hz14 z15 hz15 => ?_, fun h7 => ?_⟩
    · have hj7 : 7 ≤ j := (nI_leI (by omega) (by omega)).mp h7
      have P8 : PF c z4 z8 := ⟨fun k _ => k1 k, fun a j _ => k2 a j, fun a i u1 u2 => k3 a i (fun w => u1 ⟨by omega, by omega, by rw [w.1]; show i / 7 = c; omega⟩)⟩
      have P15 : PF c z4 z15 := by rw [hz15, hz14]; exact (P8.ux (by omega)).ux (by omega)
      have R15 : RepT z15 c E0 := by rw [hz15, hz14]; exact (RepT0 hc (fun i hi => k4 i (by omega))).pux.pux
      have X15 : LX z15 (mT M) := by
        refine ⟨?_, h9, T.2.2.1, fun i hi => ?_⟩
        · rw [hz15, sx_ux, if_neg (by omega), hz14, sx_ux, if_neg (by omega), k1]; exact x42
        · rw [hz15, sf_ux, hz14, sf_ux, k3 0 i (by omega), f4]; exact T.2.2.2 i hi
      refine tn_next X15 (p := 0) (by rw [hz15, sx_ux, if_pos rfl]) (Nat.zero_le _) (by rw [hz15, sx_ux, if_neg (by omega), hz14, sx_ux, if_pos rfl]; rfl) (fun z16 n16 e48 L16 _ => ?_)
      have c15 : sx z15 31 = nI c := by rw [hz15, sx_ux, if_neg (by omega), hz14, sx_ux, if_neg (by omega), k1]; exact c4
      have T16 : TPk c z4 (mT M) z16 (lex (mT M) 0, E0, []) := ⟨P15.nf n16, ⟨X15.nf n16, e48, L16, (lex_b (Nat.zero_le _)).1⟩, R15.nf n16, (n16.1 31 (by omega)).trans c15, ⟨fun x hx => (by cases hx), fun x hx => (by cases hx)⟩⟩
      refine tl_whole T16 (fun z n E eW P R c31 x39 hx39 z40 hz40 z41 hz41 => ?_) (fun z n f eW P g z43 hz43 => ?_)
      · have eA := aEd_ok h9 eW
        obtain ⟨okN, ct, hct⟩ := hok h9 n E eW
        have hz29 : sx z 29 = nI a := (P.1 29 (by omega)).trans ((x4 29 (by omega) (by omega) (by omega) (by omega)).trans s29)
        have v29 : sx z41 29 = nI c := by rw [hz41, sx_ux, if_neg (by omega), hz40, sx_ux, if_pos rfl]; exact c31
        have v31 : sx z41 31 = nI a := by rw [hz41, sx_ux, if_pos rfl, hx39]; exact hz29
        have R41 : RepT z41 c E := by rw [hz41, hz40]; exact R.pux.pux
        refine tsp_laysLeaves v29 R41 okN hct (fun z42 hF hV => ?_)
        have hp' := hp z42
        rw [eA] at hp'
        refine hp' ?_
        have vx : ∀ k, k ≠ 29 → k ≠ 31 → k ≠ 66 → k ≠ 71 → (k < 42 ∨ 61 < k) → sx z42 k = sx z4 k := by
          intro k u1 u2 u3 u4 u5
          rw [hF.1 k u3 u4, hz41, sx_ux, if_neg u2, hz40, sx_ux, if_neg u1]
          exact P.1 k u5
        have vf : ∀ a' j, a' < 67 → ¬ (3 ≤ a' ∧ a' ≤ 28 ∧ j / Wd a' = c) → ¬ (52 ≤ a' ∧ a' ≤ 58) → sf z42 a' j = sf σ a' j := by
          intro a' j u1 u2 u3
          rw [hF.2.2 a' j u1, hz41, sf_ux, hz40, sf_ux, P.2.2 a' j u2 u3]
          exact f4 a' j
        have vg : ∀ a' j, ¬ ((a' = 4 ∨ a' = 18) ∧ j / Wd a' = c) → sg z42 a' j = sg σ a' j := by
          intro a' j u
          rw [hF.2.1 a' j, hz41, sg_ux, hz40, sg_ux, P.2.1 a' j u]
          exact g4 a' j
        obtain ⟨ha, hb, _, hab, hbc, hac⟩ := hs
        refine ⟨c, b, a, ⟨hc, hb, ha, fun w => hbc w.symm, fun w => hab w.symm, fun w => hac w.symm⟩, (hF.1 29 (by omega) (by omega)).trans v29, ?_, (hF.1 31 (by omega) (by omega)).trans v31, ?_, okN, ?_, ?_, hV, ⟨?_, Nat.zero_le _, fun b hb => (by cases hb), fun j hj => (by cases hj)⟩, ?_⟩
        · rw [vx 30 (by omega) (by omega) (by omega) (by omega) (by omega)]; exact (x4 30 (by omega) (by omega) (by omega) (by omega)).trans s30
        · exact R41.same (fun a' j u1 u2 _ => hF.2.2 a' j (by omega)) (fun a' j _ _ => hF.2.1 a' j)
        · refine K.same ((vx 32 (by omega) (by omega) (by omega) (by omega) (by omega)).trans (x4 32 (by omega) (by omega) (by omega) (by omega))) (fun E' hR => ?_)
          exact hR.same (fun a' j u1 u2 u3 => vf a' j (by omega) (fun w => hbc (u3.symm.trans w.2.2)) (by omega)) (fun a' j u1 u2 => vg a' j (fun w => hbc (u2.symm.trans w.2)))
        · obtain ⟨S1, S2, S3⟩ := S
          refine ⟨?_, S2, fun k hk => ?_⟩
          · rw [vx 34 (by omega) (by omega) (by omega) (by omega) (by omega)]; exact (x4 34 (by omega) (by omega) (by omega) (by omega)).trans S1
          · have e : ∀ a' j, 35 ≤ a' → a' ≤ 41 → sf z42 a' j = sf σ a' j := fun a' j u1 u2 => vf a' j (by omega) (by omega) (by omega)
            obtain ⟨q1, q2, q3, q4, q5, q6, q7, q8⟩ := S3 k hk
            exact ⟨(e _ _ (by omega) (by omega)).trans q1, (e _ _ (by omega) (by omega)).trans q2, (e _ _ (by omega) (by omega)).trans q3, (e _ _ (by omega) (by omega)).trans q4, fun j hj => (e _ _ (by omega) (by omega)).trans (q5 j hj), (e _ _ (by omega) (by omega)).trans q6, fun j hj => (e _ _ (by omega) (by omega)).trans (q7 j hj), q8⟩
        · rw [vx 1 (by omega) (by omega) (by omega) (by omega) (by omega)]; exact x1
        · rw [vx 33 (by omega) (by omega) (by omega) (by omega) (by omega)]; exact x33
      · have eA := aEd_er h9 eW
        have hp' := hp z43
        rw [eA] at hp'
        refine hp' ?_
        refine TR.dr hs s29 s30 s31 RA okE K S V (fun k u u1 u2 u3 => ?_) ?_ ?_ (fun a' j u => ?_) (fun a' j u1 u2 => ?_)
        · rw [hz43, sx_ux, if_neg u3, P.1 k u]; exact x4 k u1 u2 u3 (by omega)
        · rw [hz43, sx_ux, if_neg (by omega), P.1 1 (by omega)]; exact x1
        · rw [hz43, sx_ux, if_pos rfl]
        · rw [hz43, sg_ux, P.2.1 a' j u]; exact g4 a' j
        · rw [hz43, sf_ux, P.2.2 a' j u1 u2]; exact f4 a' j
    · have hj7 : j < 7 := by
        rcases Nat.lt_or_ge j 7 with w | w
        · exact w
        · exact absurd (nI_le w (by omega)) h7
      rw [k1 31, c4, nI_mul, nI_add, nI_clamp (by omega)]
      refine ⟨vp_inN (by omega) (by omega), fun z84 hz84 => ⟨7 - (j + 1), by omega, j + 1, by omega, rfl, nI_add j 1, fun k => by rw [hz84, sx_uf]; exact k1 k, fun a i => by rw [hz84, sg_uf]; exact k2 a i, fun a i u => by rw [hz84, sf_uf, if_neg (by omega)]; exact k3 a i u, fun i hi => ?_⟩⟩
      rw [hz84, sf_uf]
      by_cases e : i = j
      · rw [if_pos ⟨rfl, by rw [e]⟩]; rfl
      · rw [if_neg (by omega)]; exact k4 i (by omega)
  · have h9 : 900 < (mT M).length := by
      rcases Nat.lt_or_ge 900 (mT M).length with w | w
      · exact w
      · exact absurd (nI_le w (by omega)) hle
    have eA : aEdition M = (-1, (mE M, mK M, mS M, [], -1)) := by
      unfold aEdition
      rw [if_pos h9]
    rw [eA] at hp
    refine hp z4 ?_
    exact TR.dr hs s29 s30 s31 RA okE K S V (fun k u u1 u2 u3 => x4 k u1 u2 u3 (by omega)) x1 x33 (fun a' j _ => g4 a' j) (fun a' j _ _ => f4 a' j)
