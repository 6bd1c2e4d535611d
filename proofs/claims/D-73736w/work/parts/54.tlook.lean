/-! The model's side: the leaf to which a stay comes, its class, its weight -/
set_option maxRecDepth 100000
theorem lk_some {E : Ed} {s : St} {n : Nat} {bs : List Bool} (ho : EdOk E) (hl : (eNd E).length ≤ 40) (h : lkN E s = some (n, bs)) : ∃ x, (eNd E)[n]? = some x ∧ ¬ x.1 < 0 ∧ (∃ j, j < (eCl E).length ∧ x.1 = nI j) ∧ bs.length ≤ 40 ∧ n < (eNd E).length := by
  unfold lkN at h
  by_cases hc : (eCh E).findIdx (fun c => anyS c.2.1 (sMain s)) < (eCh E).length
  · rw [dif_pos hc] at h
    obtain ⟨r, hr1, hr2⟩ := ho.2.2.1 _ (List.getElem_mem hc)
    rw [hr1, ix, nI_clamp (by omega)] at h
    obtain ⟨x, h1, h2, h3⟩ := gn_ok (F := evA s (lkL E s) (lkT E s)) ho.2.1 40 r hr2 (by omega)
    have h' := Option.some.inj h
    rw [h'] at h1 h3
    refine ⟨x, h1, h2, (ho.2.1 n x h1).2.1 h2, h3, ?_⟩
    rcases Nat.lt_or_ge n (eNd E).length with z | z
    · exact z
    · rw [List.getElem?_eq_none z] at h1; cases h1
  · rw [dif_neg hc] at h; cases h
theorem tsp_leafFor {σ : TS} {d k : Nat} {E : Ed} {ss : List St} {post : Int32 → TS → Prop} (hR : RepT σ d E) (ho : EdOk E) (hS : SR σ ss) (hk : k < ss.length)
    (h0 : lkN E ss[k] = none → ∀ σ', QF σ σ' → sx σ' 65 = nI 0 → post (-1) σ')
    (h1 : ∀ n bs σ' x, lkN E ss[k] = some (n, bs) → QF σ σ' → sx σ' 65 = nI bs.length → (∀ j (hj : j < bs.length), sf σ' 64 j = bi bs[j]) → (eNd E)[n]? = some x → ¬ x.1 < 0 → n < 40 → bs.length ≤ 40 → post (nI n) σ') : wp_leafFor post σ (nI d) (nI k) := by
  intro z1 hz1
  have hd := hR.1
  have hn := hS.2.1
  have hl40 : (eNd E).length ≤ 40 := hR.2.2.2.2.2.1.2.1
  have hl6 : (eCh E).length ≤ 6 := hR.2.1.2.1
  have hc400 : (eCn E).length ≤ 400 := hR.2.2.2.2.2.2.2.1
  have q1 : QF σ z1 := by rw [hz1]; exact (QF.rf σ).ux (by omega)
  have w1 : sx z1 65 = nI 0 := by rw [hz1, sx_ux, if_pos rfl]
  obtain ⟨m1, -⟩ := (hS.q q1).2.2 k hk
  refine tsp_chapterFor hd (by omega) (hR.q q1).2.1 m1 ⟨fun hge => ?_, fun hlt => ?_⟩
  · by_cases hc : (eCh E).findIdx (fun c => anyS c.2.1 (sMain ss[k])) < (eCh E).length
    · obtain ⟨r, hr1, hr2⟩ := ho.2.2.1 _ (List.getElem_mem hc)
      have hN : lkN E ss[k] = some (gn (evA ss[k] (lkL E ss[k]) (lkT E ss[k])) (eNd E) (eCn E) 40 r) := by
        rw [lkN, dif_pos hc, hr1, ix, nI_clamp (by omega)]
      rw [chapterFor, fst9, if_pos hc]
      generalize (eCh E).findIdx (fun c => anyS c.2.1 (sMain ss[k])) = c at hc hr1
      refine tsp_topOf hd (hR.q q1).2.2.1 (hS.q q1) hk (fun z7 hz7 => ?_)
      have q7 : QF σ z7 := by rw [hz7]; exact q1.ux (by omega)
      refine tsp_levelOf hd (hR.q q7).2.2.2.1 (hS.q q7) hk (fun z10 hz10 => ?_)
      have q10 : QF σ z10 := by rw [hz10]; exact q7.ux (by omega)
      have t10 : sx z10 62 = lkT E ss[k] := by rw [hz10, sx_ux, if_neg (by omega), hz7, sx_ux, if_pos rfl]; rfl
      have l10 : sx z10 63 = lkL E ss[k] := by rw [hz10, sx_ux, if_pos rfl]; rfl
      have w10 : sx z10 65 = nI 0 := by rw [hz10, sx_ux, if_neg (by omega), hz7, sx_ux, if_neg (by omega)]; exact w1
      rw [nI_mul 6 d, nI_add (6 * d) c, nI_clamp (show 6 * d + c < 2 ^ 31 by omega), ((hR.q q10).2.1.2.2 c hc).2.2.2.2, hr1]
      refine ⟨vp_inN (by omega) (by omega), fun x11 hx11 => ?_⟩
      subst hx11
      refine ⟨fun f z x => ∃ m bs, x = nI m ∧ m < (eNd E).length ∧ (eNd E).length ≤ m + f + 1 ∧ gn (evA ss[k] (lkL E ss[k]) (lkT E ss[k])) (eNd E) (eCn E) 40 r = ((gn (evA ss[k] (lkL E ss[k]) (lkT E ss[k])) (eNd E) (eCn E) f m).1, bs ++ (gn (evA ss[k] (lkL E ss[k]) (lkT E ss[k])) (eNd E) (eCn E) f m).2) ∧ QF σ z ∧ sx z 62 = lkT E ss[k] ∧ sx z 63 = lkL E ss[k] ∧ sx z 65 = nI bs.length ∧ (∀ j (hj : j < bs.length), sf z 64 j = bi bs[j]) ∧ bs.length + f ≤ 40, ⟨40, r, [], rfl, hr2, by omega, rfl, q10, t10, l10, w10, fun j hj => absurd hj (Nat.not_lt_zero _), Nat.le_refl _⟩, ?_⟩
      rintro f z x ⟨m, bs, rfl, hm, hf, hg, qz, tz, lz, wz, az, hb40⟩
      have hx : (eNd E)[m]? = some (eNd E)[m] := List.getElem?_eq_getElem hm
      obtain ⟨g1, g2, g3⟩ := (hR.q qz).2.2.2.2.2.1.2.2 m hm
      have hvp : vp_in (nI (40 * d + m)) 120 := vp_inN (by omega) (by omega)
      rw [nI_mul 40 d, nI_add (40 * d) m, nI_clamp (show 40 * d + m < 2 ^ 31 by omega), g1]
      refine ⟨hvp, fun hge2 => ?_, fun hlt2 => ?_⟩
      · have hnl : ¬ (eNd E)[m].1 < 0 := Int32.not_lt.mpr hge2
        rw [gn_leaf hx hnl, List.append_nil] at hg
        exact h1 m bs z _ (by rw [hN, hg]) qz wz az hx hnl (by omega) (by omega)
      · have hneg : (eNd E)[m].1 < 0 := Int32.not_le.mp hlt2
        obtain ⟨u1, u2, u3, u4, u5⟩ := (ho.2.1 m _ hx).1 hneg
        obtain ⟨w21, w22, w23⟩ := g3 (by omega)
        cases f with
        | zero => omega
        | succ f =>
          rw [gn_step hx hneg] at hg
          rw [w21]
          refine ⟨fun z22 b23 b24 x25 => z22 = z ∧ b23 = vl (evA ss[k] (lkL E ss[k]) (lkT E ss[k])) (eCn E) (eNd E)[m].2.1 ∧ b24 = b23 ∧ x25 = nI bs.length, ?_, hvp, tsp_isSo hd (hR.q qz).2.2.2.2.2.2 ho.1 (hS.q qz) hk _ _ _ u5 (by show _ < 401; omega) ?_⟩
          · rintro z22 b23 b24 x25 ⟨e1, e2, e3, rfl⟩
            subst e1
            subst e3
            rw [nI_clamp (show bs.length < 2 ^ 31 by omega)]
            refine ⟨vp_inN (by omega) (by omega), fun z26 hz26 z27 hz27 => ?_⟩
            have q27 : QF σ z27 := by rw [hz27, hz26]; exact (qz.uf).ux (by omega)
            have t27 : sx z27 62 = lkT E ss[k] := by rw [hz27, sx_ux, if_neg (by omega), hz26, sx_uf]; exact tz
            have l27 : sx z27 63 = lkL E ss[k] := by rw [hz27, sx_ux, if_neg (by omega), hz26, sx_uf]; exact lz
            have w27 : sx z27 65 = nI (bs ++ [b24]).length := by rw [hz27, sx_ux, if_pos rfl, hz26, sx_uf, wz, nI_add, List.length_append]; rfl
            have a27 : ∀ j (hj : j < (bs ++ [b24]).length), sf z27 64 j = bi (bs ++ [b24])[j] := by
              intro j hj
              rw [List.length_append, List.length_singleton] at hj
              rw [hz27, sf_ux, hz26, sf_uf]
              by_cases e : j = bs.length
              · subst e
                rw [if_pos ⟨rfl, rfl⟩, List.getElem_append_right (Nat.le_refl _)]
                simp
              · rw [if_neg (by omega), List.getElem_append_left (by omega)]
                exact az j (by omega)
            have s22 : sf z27 22 (40 * d + m) = nI (eNd E)[m].2.2.1 := by rw [hz27, sf_ux, hz26, sf_uf, if_neg (by omega)]; exact w22
            have s23 : sf z27 23 (40 * d + m) = nI (eNd E)[m].2.2.2.1 := by rw [hz27, sf_ux, hz26, sf_uf, if_neg (by omega)]; exact w23
            refine ⟨fun hb => ⟨hvp, fun x29 hx29 => ?_⟩, fun hb => ⟨hvp, fun x29 hx29 => ?_⟩⟩
            · rw [s23] at hx29
              rw [← e2, hb] at hg
              exact ⟨f, by omega, _, bs ++ [b24], hx29, u4, by omega, by rw [hg, hb, List.append_assoc]; rfl, q27, t27, l27, w27, a27, by rw [List.length_append, List.length_singleton]; omega⟩
            · rw [s22] at hx29
              rw [← e2, hb] at hg
              exact ⟨f, by omega, _, bs ++ [b24], hx29, u2, by omega, by rw [hg, hb, List.append_assoc]; rfl, q27, t27, l27, w27, a27, by rw [List.length_append, List.length_singleton]; omega⟩
          · rw [lz, tz]
            exact ⟨fun hb => ⟨rfl, rfl, hb.symm, wz⟩, fun hb => ⟨rfl, rfl, hb.symm, wz⟩⟩
    · rw [chapterFor, fst9, if_neg hc] at hge
      exact absurd hge (by decide)
  · have hN : lkN E ss[k] = none := by
      rw [lkN]
      by_cases hc : (eCh E).findIdx (fun c => anyS c.2.1 (sMain ss[k])) < (eCh E).length
      · rw [chapterFor, fst9, if_pos hc] at hlt
        exact absurd (nI_pos' (by omega)) hlt
      · rw [dif_neg hc]
    exact h0 hN z1 q1 w1
theorem tsp_classFor {σ : TS} {d k : Nat} {E : Ed} {ss : List St} {post : Int32 → TS → Prop} (hR : RepT σ d E) (ho : EdOk E) (hS : SR σ ss) (hk : k < ss.length) (hp : ∀ σ', QF σ σ' → post (lkK E ss[k]) σ') : wp_classFor post σ (nI d) (nI k) := by
  have hd := hR.1
  refine tsp_leafFor hR ho hS hk (fun e σ' q _ => ⟨fun h => absurd h (by decide), fun _ => ?_⟩) (fun n bs σ' x e q _ _ hx hnl hn40 _ => ⟨fun _ => ?_, fun h => absurd (nI_pos' (by omega)) h⟩)
  · have := hp σ' q
    rw [lkK, e] at this
    exact this
  · have hnl2 : n < (eNd E).length := by
      rcases Nat.lt_or_ge n (eNd E).length with z | z
      · exact z
      · rw [List.getElem?_eq_none z] at hx; cases hx
    have g1 := ((hR.q q).2.2.2.2.2.1.2.2 n hnl2).1
    rw [List.getElem?_eq_getElem hnl2] at hx
    rw [nI_mul, nI_add, nI_clamp (show 40 * d + n < 2 ^ 31 by omega), g1]
    refine ⟨vp_inN (by omega) (by omega), ?_⟩
    have := hp σ' q
    rw [lkK, e] at this
    simp only [List.getElem?_eq_getElem hnl2, Option.map_some, Option.getD_some] at this
    exact this
theorem lkK_cases {E : Ed} {s : St} (ho : EdOk E) (hl : (eNd E).length ≤ 40) : lkK E s = -1 ∨ ∃ j, j < (eCl E).length ∧ lkK E s = nI j := by
  cases e : lkN E s with
  | none => left; rw [lkK, e]
  | some p =>
    obtain ⟨n, bs⟩ := p
    obtain ⟨x, h1, h2, ⟨j, h3, h4⟩, -⟩ := lk_some ho hl e
    right
    refine ⟨j, h3, ?_⟩
    rw [lkK, e]
    simp only [h1, Option.map_some, Option.getD_some]
    exact h4
theorem tsp_weightFor {σ : TS} {d k : Nat} {E : Ed} {ss : List St} {post : Int32 → TS → Prop} (hR : RepT σ d E) (ho : EdOk E) (hS : SR σ ss) (hk : k < ss.length) (hp : ∀ σ', QF σ σ' → post (lkW E ss[k]) σ') : wp_weightFor post σ (nI d) (nI k) := by
  have hd := hR.1
  have hl16 : (eCl E).length ≤ 16 := hR.2.2.2.2.1.2.1
  refine tsp_classFor hR ho hS hk (fun σ' q => ?_)
  have hpw := hp σ' q
  rcases lkK_cases (s := ss[k]) ho hR.2.2.2.2.2.1.2.1 with e | ⟨j, hj, e⟩
  · rw [e]
    refine ⟨fun h => absurd h (by decide), fun _ => ?_⟩
    rw [lkW, e, if_pos (by decide)] at hpw
    exact hpw
  · rw [e]
    refine ⟨fun _ => ?_, fun h => absurd (nI_pos' (by omega)) h⟩
    have g1 := ((hR.q q).2.2.2.2.1.2.2 j hj).2
    rw [nI_mul, nI_add, nI_clamp (show 16 * d + j < 2 ^ 31 by omega), g1]
    refine ⟨vp_inN (by omega) (by omega), ?_⟩
    rw [lkW, e, if_neg (nI_pos (by omega)), ix, nI_clamp (by omega)] at hpw
    simp only [List.getElem?_eq_getElem hj, Option.map_some, Option.getD_some] at hpw
    exact hpw
