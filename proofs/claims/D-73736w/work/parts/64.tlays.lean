/-! The model: rows of answers, marks, leaves -/
set_option maxRecDepth 100000
/-- to which tree each condition belongs is laid -/
def CT (z : TS) (d : Nat) (E : Ed) (ct : Nat → Nat) : Prop := ∀ k, k < (eCn E).length → sf z 72 (400 * d + k) = nI (ct k)
/-- what laying answers of one fact changes: answerMany, answers from b on -/
def AF (σ σ' : TS) (b : Nat) : Prop := (∀ k, k ≠ 71 → sx σ' k = sx σ k) ∧ (∀ a j, sg σ' a j = sg σ a j) ∧ ∀ a j, (a ≠ 69 ∨ j < b) → sf σ' a j = sf σ a j
theorem AF.l {σ σ' : TS} {b : Nat} (h : AF σ σ' b) : LF σ σ' := ⟨fun k _ h2 => h.1 k h2, h.2.1, fun a j ha => h.2.2 a j (Or.inl (by omega))⟩
/-- a stretch of sets: those of the values from lo up to before hi -/
def sgm (z : TS) (b e : Nat) (S : Nat → Int32) (lo hi : Nat) : Prop := (∀ j, b ≤ j → j < e → ∃ v, lo ≤ v ∧ v < hi ∧ sf z 69 j = S v) ∧ ∀ v, lo ≤ v → v < hi → ∃ j, b ≤ j ∧ j < e ∧ sf z 69 j = S v
theorem tsp_laysAnswers {σ : TS} {d c w lo hi b : Nat} {E : Ed} {ct : Nat → Nat} {post : TS → Prop} (hd : d < 3) (en : sx σ 29 = nI d) (hC : cnT σ d (eCn E)) (ho : cOk2 (eCn E)) (hct : CT σ d E ct) (hcl : ∀ k, k < (eCn E).length → ct k < 1000) (hc : c < 1000) (hw : w ≤ 9) (hw6 : 6 ≤ w) (hlo : lo ≤ hi) (hhi : hi ≤ 400) (hb : sx σ 71 = nI b) (hb2 : b + (hi - lo + 1) ≤ 1700)
    (hp : ∀ z e, AF σ z b → sx z 71 = nI e → b ≤ e → e ≤ b + (hi - lo + 1) → sgm z b e (fun v => stv (eCn E) ct c w (nI v) (eCn E).length) lo (hi + 1) → post z) : wp_laysAnswers post σ (nI c) (nI w) (nI lo) (nI hi) := by
  intro x1 hx1
  rw [hb] at hx1
  subst hx1
  obtain ⟨hl, hl4, hcn⟩ := hC
  refine ⟨fun n z x => ∃ v e, x = nI v ∧ lo ≤ v ∧ v ≤ hi + 1 ∧ n = hi + 1 - v ∧ AF σ z b ∧ sx z 71 = nI e ∧ b ≤ e ∧ e ≤ b + (v - lo) ∧ sgm z b e (fun v => stv (eCn E) ct c w (nI v) (eCn E).length) lo v, ⟨_, lo, b, rfl, Nat.le_refl _, by omega, rfl, ⟨fun _ _ => rfl, fun _ _ => rfl, fun _ _ _ => rfl⟩, hb, Nat.le_refl _, by omega, fun j h1 h2 => absurd h1 (by omega), fun v h1 h2 => absurd h1 (by omega)⟩, ?_⟩
  rintro n z x ⟨v, e, rfl, hv1, hv2, rfl, hF, he, hbe, hev, hsg⟩
  refine ⟨fun hgt => ?_, fun hgt => ?_⟩
  · have : hi < v := (nI_ltI (by omega) (by omega)).mp hgt
    have hvv : v = hi + 1 := by omega
    subst hvv
    exact hp z e hF he hbe (by omega) hsg
  · have hvh : v ≤ hi := by
      rcases Nat.lt_or_ge hi v with z1 | z1
      · exact absurd (nI_lt z1 (by omega)) hgt
      · exact z1
    refine ⟨fun n z2 x15 x16 => z2 = z ∧ ∃ k, x16 = nI k ∧ k ≤ (eCn E).length ∧ n = (eCn E).length - k ∧ x15 = stv (eCn E) ct c w (nI v) k, ⟨_, rfl, 0, rfl, Nat.zero_le _, rfl, nI_0⟩, ?_⟩
    rintro n z2 x15 x16 ⟨hz2, k, rfl, hk, rfl, rfl⟩
    subst hz2
    have en2 : sx z2 29 = nI d := (hF.1 _ (by omega)).trans en
    have s5 : sf z2 3 (7 * d + 5) = nI (eCn E).length := (hF.2.2 _ _ (Or.inl (by omega))).trans hl
    rw [en2, nI_mul 7 d, nI_add (7 * d) 5, nI_clamp (show 7 * d + 5 < 2 ^ 31 by omega), s5]
    refine ⟨vp_inN (by omega) (by omega), fun hge => ?_, fun hlt => ?_⟩
    · have hkk := nle_of (by omega) hk hge
      subst hkk
      refine ⟨fun n z3 b24 x25 => z3 = z2 ∧ ∃ j, x25 = nI j ∧ b ≤ j ∧ j ≤ e ∧ n = e - j ∧ (b24 = true ↔ ∀ i, b ≤ i → i < j → ¬ sf z2 69 i = stv (eCn E) ct c w (nI v) (eCn E).length), ⟨_, rfl, b, rfl, Nat.le_refl _, hbe, rfl, ⟨fun _ i h1 h2 => absurd h1 (by omega), fun _ => rfl⟩⟩, ?_⟩
      rintro n z3 b24 x25 ⟨hz3, j, rfl, hj1, hj2, rfl, hb24⟩
      subst hz3
      rw [he, nI_clamp (show j < 2 ^ 31 by omega)]
      refine ⟨fun hge2 => ?_, fun hlt2 => ?_⟩
      · have hjj := nle_of (by omega) hj2 hge2
        subst hjj
        refine ⟨fun hbt => ⟨vp_inN (by omega) (by omega), fun z29 hz29 z30 hz30 => ?_⟩, fun hbf => ?_⟩
        · rw [nI_clamp (show j < 2 ^ 31 by omega)] at hz29
          refine ⟨hi + 1 - (v + 1), by omega, v + 1, j + 1, by rw [nI_add], by omega, by omega, rfl, ⟨fun k hk => ?_, fun a i => ?_, fun a i ha => ?_⟩, ?_, by omega, by omega, fun i h1 h2 => ?_, fun v2 h1 h2 => ?_⟩
          · rw [hz30, sx_ux, if_neg hk, hz29, sx_uf]; exact hF.1 k hk
          · rw [hz30, sg_ux, hz29, sg_uf]; exact hF.2.1 a i
          · rw [hz30, sf_ux, hz29, sf_uf, if_neg (by omega)]; exact hF.2.2 a i ha
          · rw [hz30, sx_ux, if_pos rfl, hz29, sx_uf, he, nI_add]
          · rw [hz30, sf_ux, hz29, sf_uf]
            by_cases e2 : i = j
            · subst e2
              rw [if_pos ⟨rfl, rfl⟩]
              exact ⟨v, hv1, by omega, rfl⟩
            · rw [if_neg (by omega)]
              obtain ⟨v2, w1, w2, w3⟩ := hsg.1 i h1 (by omega)
              exact ⟨v2, w1, by omega, w3⟩
          · by_cases e2 : v2 = v
            · subst e2
              exact ⟨j, hj1, by omega, by rw [hz30, sf_ux, hz29, sf_uf, if_pos ⟨rfl, rfl⟩]⟩
            · obtain ⟨i, w1, w2, w3⟩ := hsg.2 v2 h1 (by omega)
              exact ⟨i, w1, by omega, by rw [hz30, sf_ux, hz29, sf_uf, if_neg (by omega)]; exact w3⟩
        · have hex : ∃ i, b ≤ i ∧ i < j ∧ sf z3 69 i = stv (eCn E) ct c w (nI v) (eCn E).length := by
            refine Classical.byContradiction fun hno => ?_
            have := hb24.mpr (fun i h1 h2 h3 => hno ⟨i, h1, h2, h3⟩)
            rw [hbf] at this; cases this
          refine ⟨hi + 1 - (v + 1), by omega, v + 1, j, by rw [nI_add], by omega, by omega, rfl, hF, he, hbe, by omega, fun i h1 h2 => ?_, fun v2 h1 h2 => ?_⟩
          · obtain ⟨v2, w1, w2, w3⟩ := hsg.1 i h1 h2
            exact ⟨v2, w1, by omega, w3⟩
          · by_cases e2 : v2 = v
            · subst e2; exact hex
            · exact hsg.2 v2 h1 (by omega)
      · have hj3 := nlt_of (by omega) hj2 hlt2
        refine ⟨vp_inN (by omega) (by omega), fun hne => ⟨e - (j + 1), by omega, rfl, j + 1, by rw [nI_add], by omega, by omega, rfl, ⟨fun h i h1 h2 => ?_, fun h => hb24.mpr (fun i h1 h2 => h i h1 (by omega))⟩⟩, fun heq => ⟨e - (j + 1), by omega, rfl, j + 1, by rw [nI_add], by omega, by omega, rfl, ⟨fun h => (by cases h), fun h => absurd heq (h j hj1 (by omega))⟩⟩⟩
        by_cases e2 : i = j
        · subst e2; exact hne
        · exact hb24.mp h i h1 (by omega)
    · have hk2 := nlt_of (by omega) hk hlt
      obtain ⟨q1, q2, q3, q4⟩ := hcn k hk2
      have hkk : (eCn E)[k]? = some (eCn E)[k] := List.getElem?_eq_getElem hk2
      obtain ⟨t1, -, -, t4⟩ := ho k _ hkk
      have hF' : ∀ a, a < 67 ∨ a = 72 → sf z2 a (400 * d + k) = sf σ a (400 * d + k) := fun a ha => hF.2.2 _ _ (Or.inl (by omega))
      have hvp : vp_in (nI (400 * d + k)) 1200 := vp_inN (by omega) (by omega)
      have hsucc : stv (eCn E) ct c w (nI v) (k + 1) = if (eCn E)[k].1 = w ∧ ct k = c ∧ cmpM (eCn E)[k].2.1 (nI v) (eCn E)[k].2.2.1 = true then stv (eCn E) ct c w (nI v) k ||| (nI 1 <<< (nI (eCn E)[k].2.2.2 &&& 31)) else stv (eCn E) ct c w (nI v) k := by rw [stv, hkk]
      intro x38 hx38
      rw [nI_mul, nI_add] at hx38
      subst hx38
      rw [nI_clamp (show 400 * d + k < 2 ^ 31 by omega), hF' 25 (by omega), hF' 26 (by omega), hF' 27 (by omega), hF' 72 (by omega), q1, q2, q3, hct k hk2]
      refine ⟨hvp, fun hne => ⟨(eCn E).length - (k + 1), by omega, rfl, k + 1, by rw [nI_add], by omega, rfl, ?_⟩, fun he1 => ⟨hvp, fun hne => ⟨(eCn E).length - (k + 1), by omega, rfl, k + 1, by rw [nI_add], by omega, rfl, ?_⟩, fun he2 => ⟨hvp, hvp, tsp_compares ⟨fun hbf => ⟨(eCn E).length - (k + 1), by omega, rfl, k + 1, by rw [nI_add], by omega, rfl, ?_⟩, fun hbt => ⟨hvp, fun x47 hx47 => ⟨(eCn E).length - (k + 1), by omega, rfl, k + 1, by rw [nI_add], by omega, rfl, ?_⟩⟩⟩⟩⟩⟩
      · rw [hsucc, if_neg (fun z => hne (by rw [z.1]))]
      · rw [hsucc, if_neg (fun z => hne (by rw [z.2.1]))]
      · rw [hsucc, if_neg (fun z => by rw [z.2.2] at hbf; cases hbf)]
      · have e1 := nI_i t1 hw he1
        have e2 : ct k = c := (nI_eq (by have := hcl k hk2; omega) (by omega)).mp he2
        rw [hF' 28 (by omega), q4 (by omega)] at hx47
        rw [hsucc, if_pos ⟨e1, e2, hbt⟩, hx47]
theorem AF.cn {σ σ' : TS} {b d : Nat} {cs : List Cn} (h : AF σ σ' b) (hC : cnT σ d cs) : cnT σ' d cs := by
  obtain ⟨h1, h2, h3⟩ := hC
  refine ⟨(h.2.2 _ _ (Or.inl (by omega))).trans h1, h2, fun k hk => ?_⟩
  obtain ⟨q1, q2, q3, q4⟩ := h3 k hk
  exact ⟨(h.2.2 _ _ (Or.inl (by omega))).trans q1, (h.2.2 _ _ (Or.inl (by omega))).trans q2, (h.2.2 _ _ (Or.inl (by omega))).trans q3, fun z => (h.2.2 _ _ (Or.inl (by omega))).trans (q4 z)⟩
/-- what laying answers of a tree changes -/
def RF9 (σ σ' : TS) : Prop := (∀ k, k ≠ 71 → sx σ' k = sx σ k) ∧ (∀ a j, sg σ' a j = sg σ a j) ∧ ∀ a j, (a ≠ 68 ∧ a ≠ 69 ∧ a ≠ 70) → sf σ' a j = sf σ a j
theorem RF9.l {σ σ' : TS} (h : RF9 σ σ') : LF σ σ' := ⟨fun k _ h2 => h.1 k h2, h.2.1, fun a j ha => h.2.2 a j (by omega)⟩
theorem RF9.tr {a b c : TS} (h : RF9 a b) (k : RF9 b c) : RF9 a c := ⟨fun i z => (k.1 i z).trans (h.1 i z), fun i j => (k.2.1 i j).trans (h.2.1 i j), fun i j z => (k.2.2 i j z).trans (h.2.2 i j z)⟩
theorem AF.r {σ σ' : TS} {b : Nat} (h : AF σ σ' b) : RF9 σ σ' := ⟨h.1, h.2.1, fun a j ha => h.2.2 a j (Or.inl ha.2.1)⟩
theorem MF.r {σ σ' : TS} (h : MF σ σ') : RF9 σ σ' := ⟨fun k _ => h.1 k, h.2.1, fun a j ha => h.2.2 a j ha.1⟩
theorem RF9.put {σ σ' : TS} {i : Nat} {v : Int32} (h : RF9 σ σ') : RF9 σ (uf σ' 70 i v) := ⟨h.1, h.2.1, fun a j ha => by rw [sf_uf, if_neg (by omega)]; exact h.2.2 a j ha⟩
theorem RF9.rf (σ : TS) : RF9 σ σ := ⟨fun _ _ => rfl, fun _ _ => rfl, fun _ _ _ => rfl⟩
theorem CT.r {σ σ' : TS} {d : Nat} {E : Ed} {ct : Nat → Nat} (h : CT σ d E ct) (q : RF9 σ σ') : CT σ' d E ct := fun k hk => (q.2.2 _ _ (by omega)).trans (h k hk)
theorem tsp_laysReached {σ : TS} {d c r : Nat} {E : Ed} {ct : Nat → Nat} {P : Nat → Prop} {post : TS → Prop} (en : sx σ 29 = nI d) (hR : RepT σ d E) (ho : EdOk E) (hct : CT σ d E ct) (hcl : ∀ k, k < (eCn E).length → ct k < 1000) (hc : c < (eCh E).length) (hr : (eCh E)[c].2.2 = nI r) (hrl : r < (eNd E).length) (hB : RB σ P)
    (hp : ∀ z, RF9 σ z → RB z (fun n => P n ∨ ∃ an, an < 64 ∧ RS E ct c r (nI an) 4 0 n) → post z) : wp_laysReached post σ (nI c) := by
  have hd := hR.1
  have hl6 : (eCh E).length ≤ 6 := hR.2.1.2.1
  intro z1 hz1
  rw [nI_clamp (show 0 < 2 ^ 31 by omega), nI_clamp (show 1 < 2 ^ 31 by omega), nI_clamp (show 2 < 2 ^ 31 by omega), nI_clamp (show 3 < 2 ^ 31 by omega), nI_clamp (show 4 < 2 ^ 31 by omega)]
  refine ⟨vp_inN (by omega) (by omega), fun z2 hz2 => ?_⟩
  have f2 : RF9 σ z2 := by
    rw [hz2]
    refine RF9.put ?_
    rw [hz1]
    exact ⟨fun k hk => by rw [sx_ux, if_neg hk], fun a j => by rw [sg_ux], fun a j _ => by rw [sf_ux]⟩
  have m2 : sx z2 71 = nI 0 := by rw [hz2, sx_uf, hz1, sx_ux, if_pos rfl]
  have a2 : sf z2 70 0 = nI 0 := by rw [hz2, sf_uf, if_pos ⟨rfl, rfl⟩]
  refine tsp_laysAnswers hd ((f2.1 _ (by omega)).trans en) (hR.l f2.l).2.2.2.2.2.2 ho.1 (hct.r f2) hcl (by omega) (by omega) (by omega) (by omega) (by omega) m2 (by omega) (fun z3 e1 g3 m3 l1 l1' s3 => ⟨vp_inN (by omega) (by omega), fun z4 hz4 => ?_⟩)
  have f4 : RF9 σ z4 := by rw [hz4]; exact (f2.tr g3.r).put
  have m4 : sx z4 71 = nI e1 := by rw [hz4, sx_uf]; exact m3
  refine tsp_laysAnswers hd ((f4.1 _ (by omega)).trans en) (hR.l f4.l).2.2.2.2.2.2 ho.1 (hct.r f4) hcl (by omega) (by omega) (by omega) (by omega) (by omega) m4 (by omega) (fun z5 e2 g5 m5 l2 l2' s5 => ⟨vp_inN (by omega) (by omega), fun z6 hz6 => ?_⟩)
  have f6 : RF9 σ z6 := by rw [hz6]; exact (f4.tr g5.r).put
  have m6 : sx z6 71 = nI e2 := by rw [hz6, sx_uf]; exact m5
  refine tsp_laysAnswers hd ((f6.1 _ (by omega)).trans en) (hR.l f6.l).2.2.2.2.2.2 ho.1 (hct.r f6) hcl (by omega) (by omega) (by omega) (by omega) (by omega) m6 (by omega) (fun z7 e3 g7 m7 l3 l3' s7 => ⟨vp_inN (by omega) (by omega), fun z8 hz8 => ?_⟩)
  have f8 : RF9 σ z8 := by rw [hz8]; exact (f6.tr g7.r).put
  have m8 : sx z8 71 = nI e3 := by rw [hz8, sx_uf]; exact m7
  refine tsp_laysAnswers hd ((f8.1 _ (by omega)).trans en) (hR.l f8.l).2.2.2.2.2.2 ho.1 (hct.r f8) hcl (by omega) (by omega) (by omega) (by omega) (by omega) m8 (by omega) (fun z9 e4 g9 m9 l4 l4' s9 => ⟨vp_inN (by omega) (by omega), fun z10 hz10 => ?_⟩)
  have f10 : RF9 σ z10 := by rw [hz10]; exact (f8.tr g9.r).put
  have k9 : ∀ j, j < e3 → sf z10 69 j = sf z8 69 j := fun j hj => by rw [hz10, sf_uf, if_neg (by omega)]; exact g9.2.2 _ _ (Or.inr hj)
  have k7 : ∀ j, j < e2 → sf z8 69 j = sf z6 69 j := fun j hj => by rw [hz8, sf_uf, if_neg (by omega)]; exact g7.2.2 _ _ (Or.inr hj)
  have k5 : ∀ j, j < e1 → sf z6 69 j = sf z4 69 j := fun j hj => by rw [hz6, sf_uf, if_neg (by omega)]; exact g5.2.2 _ _ (Or.inr hj)
  have hA : AN z10 E ct c (fun f => if f = 0 then 0 else if f = 1 then e1 else if f = 2 then e2 else if f = 3 then e3 else e4) := by
    refine ⟨fun f hf => ?_, fun f hf => ?_⟩
    · have hff : f = 0 ∨ f = 1 ∨ f = 2 ∨ f = 3 ∨ f = 4 := by omega
      rcases hff with rfl | rfl | rfl | rfl | rfl
      · refine ⟨?_, by show 0 ≤ 1700; omega⟩
        show _ = nI 0
        rw [hz10, sf_uf, if_neg (by omega), g9.2.2 _ _ (Or.inl (by omega)), hz8, sf_uf, if_neg (by omega), g7.2.2 _ _ (Or.inl (by omega)), hz6, sf_uf, if_neg (by omega), g5.2.2 _ _ (Or.inl (by omega)), hz4, sf_uf, if_neg (by omega), g3.2.2 _ _ (Or.inl (by omega))]
        exact a2
      · refine ⟨?_, by show e1 ≤ 1700; omega⟩
        show _ = nI e1
        rw [hz10, sf_uf, if_neg (by omega), g9.2.2 _ _ (Or.inl (by omega)), hz8, sf_uf, if_neg (by omega), g7.2.2 _ _ (Or.inl (by omega)), hz6, sf_uf, if_neg (by omega), g5.2.2 _ _ (Or.inl (by omega)), hz4, sf_uf, if_pos ⟨rfl, rfl⟩]
        exact m3
      · refine ⟨?_, by show e2 ≤ 1700; omega⟩
        show _ = nI e2
        rw [hz10, sf_uf, if_neg (by omega), g9.2.2 _ _ (Or.inl (by omega)), hz8, sf_uf, if_neg (by omega), g7.2.2 _ _ (Or.inl (by omega)), hz6, sf_uf, if_pos ⟨rfl, rfl⟩]
        exact m5
      · refine ⟨?_, by show e3 ≤ 1700; omega⟩
        show _ = nI e3
        rw [hz10, sf_uf, if_neg (by omega), g9.2.2 _ _ (Or.inl (by omega)), hz8, sf_uf, if_pos ⟨rfl, rfl⟩]
        exact m7
      · refine ⟨?_, by show e4 ≤ 1700; omega⟩
        show _ = nI e4
        rw [hz10, sf_uf, if_pos ⟨rfl, rfl⟩]
        exact m9
    · have hff : f = 0 ∨ f = 1 ∨ f = 2 ∨ f = 3 := by omega
      rcases hff with rfl | rfl | rfl | rfl
      · refine ⟨l1, fun j h1 h2 => ?_, fun v hv => ?_⟩
        · obtain ⟨v, w1, w2, w3⟩ := s3.1 j h1 h2
          have h2' : j < e1 := h2
          refine ⟨v, Or.inl ⟨rfl, by omega⟩, ?_⟩
          rw [k9 j (by omega), k7 j (by omega), k5 j h2', hz4, sf_uf, if_neg (by omega)]
          exact w3
        · have hv' : v ≤ 120 := by rcases hv with z | z | z | z <;> omega
          obtain ⟨j, w1, w2, w3⟩ := s3.2 v (by omega) (by omega)
          refine ⟨j, w1, w2, ?_⟩
          rw [k9 j (by omega), k7 j (by omega), k5 j w2, hz4, sf_uf, if_neg (by omega)]
          exact w3
      · refine ⟨l2, fun j h1 h2 => ?_, fun v hv => ?_⟩
        · have h2' : j < e2 := h2
          obtain ⟨v, w1, w2, w3⟩ := s5.1 j h1 h2
          refine ⟨v, Or.inr (Or.inl ⟨rfl, by omega, by omega⟩), ?_⟩
          rw [k9 j (by omega), k7 j h2', hz6, sf_uf, if_neg (by omega)]
          exact w3
        · have hv' : 1 ≤ v ∧ v ≤ 400 := by rcases hv with z | z | z | z <;> omega
          obtain ⟨j, w1, w2, w3⟩ := s5.2 v (by omega) (by omega)
          refine ⟨j, w1, w2, ?_⟩
          rw [k9 j (by omega), k7 j w2, hz6, sf_uf, if_neg (by omega)]
          exact w3
      · refine ⟨l3, fun j h1 h2 => ?_, fun v hv => ?_⟩
        · have h2' : j < e3 := h2
          obtain ⟨v, w1, w2, w3⟩ := s7.1 j h1 h2
          refine ⟨v, Or.inr (Or.inr (Or.inl ⟨rfl, by omega⟩)), ?_⟩
          rw [k9 j h2', hz8, sf_uf, if_neg (by omega)]
          exact w3
        · have hv' : v ≤ 3 := by rcases hv with z | z | z | z <;> omega
          obtain ⟨j, w1, w2, w3⟩ := s7.2 v (by omega) (by omega)
          refine ⟨j, w1, w2, ?_⟩
          rw [k9 j w2, hz8, sf_uf, if_neg (by omega)]
          exact w3
      · refine ⟨l4, fun j h1 h2 => ?_, fun v hv => ?_⟩
        · obtain ⟨v, w1, w2, w3⟩ := s9.1 j h1 h2
          refine ⟨v, Or.inr (Or.inr (Or.inr ⟨rfl, by omega⟩)), ?_⟩
          rw [hz10, sf_uf, if_neg (by omega)]
          exact w3
        · have hv' : v ≤ 9 := by rcases hv with z | z | z | z <;> omega
          obtain ⟨j, w1, w2, w3⟩ := s9.2 v (by omega) (by omega)
          refine ⟨j, w1, w2, ?_⟩
          rw [hz10, sf_uf, if_neg (by omega)]
          exact w3
  have hB10 : RB z10 P := fun n hn => by
    have e : sf z10 68 n = sf σ 68 n := by
      rw [hz10, sf_uf, if_neg (by omega), g9.2.2 _ _ (Or.inl (by omega)), hz8, sf_uf, if_neg (by omega), g7.2.2 _ _ (Or.inl (by omega)), hz6, sf_uf, if_neg (by omega), g5.2.2 _ _ (Or.inl (by omega)), hz4, sf_uf, if_neg (by omega), g3.2.2 _ _ (Or.inl (by omega)), hz2, sf_uf, if_neg (by omega), hz1, sf_ux]
    rw [e]; exact hB n hn
  refine ⟨fun n z x => ∃ s, x = nI s ∧ s ≤ 64 ∧ n = 64 - s ∧ MF z10 z ∧ RB z (fun n => P n ∨ ∃ an, an < s ∧ RS E ct c r (nI an) 4 0 n), ⟨_, 0, rfl, by omega, rfl, MF.rf _, hB10.iff (fun n => ⟨fun h => Or.inl h, fun h => ?_⟩)⟩, ?_⟩
  · rcases h with h | ⟨an, h1, -⟩
    · exact h
    · exact absurd h1 (Nat.not_lt_zero _)
  · rintro n z x ⟨s, rfl, hs, rfl, hF, hBz⟩
    refine ⟨fun hge => ?_, fun hlt => ?_⟩
    · have hss := nle_of (by omega) hs hge
      subst hss
      exact hp z (f10.tr hF.r) hBz
    · have hs2 := nlt_of (by omega) hs hlt
      refine tsp_reaches (A := fun f => if f = 0 then 0 else if f = 1 then e1 else if f = 2 then e2 else if f = 3 then e3 else e4) hd ho hc hr hrl 4 5 0 z _ _ (by omega) (by omega) ((hF.1 _).trans ((f10.1 _ (by omega)).trans en)) (hR.l (f10.tr hF.r).l) (hA.m hF) hBz (fun z' hF' hB' => ⟨64 - (s + 1), by omega, s + 1, by rw [nI_add], by omega, rfl, hF.tr hF', hB'.iff (fun n => ?_)⟩)
      constructor
      · rintro ((h | ⟨an, h1, h2⟩) | h)
        · exact Or.inl h
        · exact Or.inr ⟨an, by omega, h2⟩
        · exact Or.inr ⟨s, by omega, h⟩
      · rintro (h | ⟨an, h1, h2⟩)
        · exact Or.inl (Or.inl h)
        · by_cases e : an = s
          · subst e; exact Or.inr h2
          · exact Or.inl (Or.inr ⟨an, by omega, h2⟩)
