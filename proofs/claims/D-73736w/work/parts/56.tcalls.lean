/-! The model's calls: what they answer -/
set_option maxRecDepth 100000
/-- now, kept, stays, tape, faultLine -/
abbrev MS : Type := Ed × Option Ed × List St × List Nat × Int32
abbrev mE (M : MS) : Ed := M.1
abbrev mK (M : MS) : Option Ed := M.2.1
abbrev mS (M : MS) : List St := M.2.2.1
abbrev mT (M : MS) : List Nat := M.2.2.2.1
abbrev mF (M : MS) : Int32 := M.2.2.2.2
def LV (σ : TS) (E : Ed) : Prop := sx σ 66 = nI (lvs E).length ∧ (lvs E).length ≤ 40 ∧ (∀ j (h : j < (lvs E).length), sf σ 67 j = nI (lvs E)[j] ∧ (lvs E)[j] < (eNd E).length) ∧ ∀ n, n < 40 → sf σ 68 n = bi (rch E n)
def TP (σ : TS) (bs : List Nat) : Prop := sx σ 1 = nI bs.length ∧ bs.length ≤ 936 ∧ (∀ b ∈ bs, b < 256) ∧ ∀ j (h : j < bs.length), sf σ 0 j = nI bs[j]
def KT (σ : TS) (b : Nat) (K : Option Ed) : Prop := match K with
  | none => sx σ 32 = 0
  | some K => sx σ 32 = 1 ∧ RepT σ b K ∧ EdOk K
def TR (σ : TS) (M : MS) : Prop := ∃ a b c, (a < 3 ∧ b < 3 ∧ c < 3 ∧ a ≠ b ∧ b ≠ c ∧ a ≠ c) ∧ sx σ 29 = nI a ∧ sx σ 30 = nI b ∧ sx σ 31 = nI c ∧ RepT σ a (mE M) ∧ EdOk (mE M) ∧ KT σ b (mK M) ∧ SR σ (mS M) ∧ LV σ (mE M) ∧ TP σ (mT M) ∧ sx σ 33 = mF M
theorem LV.same {σ σ' : TS} {E : Ed} (h : LV σ E) (h0 : sx σ' 66 = sx σ 66) (h1 : ∀ a j, a = 67 ∨ a = 68 → sf σ' a j = sf σ a j) : LV σ' E := ⟨h0.trans h.1, h.2.1, fun j hj => ⟨(h1 _ _ (by omega)).trans (h.2.2.1 j hj).1, (h.2.2.1 j hj).2⟩, fun n hn => (h1 _ _ (by omega)).trans (h.2.2.2 n hn)⟩
theorem TP.same {σ σ' : TS} {bs : List Nat} (h : TP σ bs) (h0 : sx σ' 1 = sx σ 1) (h1 : ∀ j, sf σ' 0 j = sf σ 0 j) : TP σ' bs := ⟨h0.trans h.1, h.2.1, h.2.2.1, fun j hj => (h1 j).trans (h.2.2.2 j hj)⟩
theorem KT.same {σ σ' : TS} {b : Nat} {K : Option Ed} (h : KT σ b K) (h0 : sx σ' 32 = sx σ 32) (h1 : ∀ E, RepT σ b E → RepT σ' b E) : KT σ' b K := by
  cases K with
  | none => exact h0.trans h
  | some K => exact ⟨h0.trans h.1, h1 _ h.2.1, h.2.2⟩
theorem TR.q {σ σ' : TS} {M : MS} (h : TR σ M) (q : QF σ σ') : TR σ' M := by
  obtain ⟨a, b, c, h1, h2, h3, h4, h5, h6, h7, h8, h9, h10, h11⟩ := h
  have hx : ∀ k, k ≠ 2 ∧ k < 60 ∨ k = 66 → sx σ' k = sx σ k := fun k hk => q.1 k (by omega) (by omega) (by omega) (by omega)
  exact ⟨a, b, c, h1, (hx _ (by omega)).trans h2, (hx _ (by omega)).trans h3, (hx _ (by omega)).trans h4, h5.q q, h6, h7.same (hx _ (by omega)) (fun E z => z.q q), h8.q q, h9.same (hx _ (by omega)) (fun x j _ => q.2.2 x j (by omega)), h10.same (hx _ (by omega)) (fun j => q.2.2 0 j (by omega)), (hx _ (by omega)).trans h11⟩
theorem TR.s {σ σ' : TS} {M : MS} {ss : List St} (h : TR σ M) (q : SF σ σ') (hS : SR σ' ss) : TR σ' (mE M, mK M, ss, mT M, mF M) := by
  obtain ⟨a, b, c, h1, h2, h3, h4, h5, h6, h7, h8, h9, h10, h11⟩ := h
  exact ⟨a, b, c, h1, (q.1 _).trans h2, (q.1 _).trans h3, (q.1 _).trans h4, h5.s q, h6, h7.same (q.1 _) (fun E z => z.s q), hS, h9.same (q.1 _) (fun x j _ => q.2.2.2 x j (by omega)), h10.same (q.1 _) (fun j => q.2.2.2 0 j (by omega)), (q.1 _).trans h11⟩
theorem TR.sr {σ : TS} {M : MS} (h : TR σ M) : SR σ (mS M) := by
  obtain ⟨a, b, c, h1, h2, h3, h4, h5, h6, h7, h8, h9⟩ := h
  exact h8
theorem TR.t {σ : TS} {M : MS} (h : TR σ M) : TR (ux σ 2 (nI 0)) M := h.q ((QF.rf σ).ux (by omega))
/-- the edition that is now -/
theorem TR.now {σ : TS} {M : MS} (h : TR σ M) : ∃ a, a < 3 ∧ sx σ 29 = nI a ∧ RepT σ a (mE M) ∧ EdOk (mE M) ∧ LV σ (mE M) := by
  obtain ⟨a, b, c, h1, h2, h3, h4, h5, h6, h7, h8, h9, h10, h11⟩ := h
  exact ⟨a, h1.1, h2, h5, h6, h9⟩
theorem tc_faultLine {σ : TS} {M : MS} {post : Int32 → TS → Prop} (h : TR σ M) (hp : ∀ σ', TR σ' M → post (mF M) σ') : wp_faultLine post σ := by
  intro z1 hz1
  have h' : TR z1 M := by rw [hz1]; exact h.t
  obtain ⟨a, b, c, h1, h2, h3, h4, h5, h6, h7, h8, h9, h10, h11⟩ := id h'
  rw [h11]
  exact hp z1 h'
theorem SR.snoc {σ σ' : TS} {ss : List St} {s : St} (h : SR σ ss) (hl : ss.length < 24) (ho : stOk s) (h0 : sSecs s = [] ∧ sProcs s = []) (hx : sx σ' 34 = nI (ss.length + 1)) (h1 : ∀ a j, 35 ≤ a → a ≤ 41 → (a = 39 ∨ a = 41 ∨ j ≠ ss.length) → sf σ' a j = sf σ a j) (e1 : sf σ' 35 ss.length = sMain s) (e2 : sf σ' 36 ss.length = sAge s) (e3 : sf σ' 37 ss.length = sDays s) (e4 : sf σ' 38 ss.length = nI 0) (e5 : sf σ' 40 ss.length = nI 0) : SR σ' (ss ++ [s]) := by
  refine ⟨by rw [List.length_append]; exact hx, by rw [List.length_append, List.length_singleton]; omega, fun k hk => ?_⟩
  rw [List.length_append, List.length_singleton] at hk
  by_cases e : k = ss.length
  · subst e
    rw [List.getElem_append_right (Nat.le_refl _)]
    simp only [Nat.sub_self, List.getElem_cons_zero]
    refine ⟨e1, e2, e3, by rw [e4, h0.1]; rfl, fun j hj => ?_, by rw [e5, h0.2]; rfl, fun j hj => ?_, ho⟩
    · rw [h0.1] at hj; exact absurd hj (Nat.not_lt_zero _)
    · rw [h0.2] at hj; exact absurd hj (Nat.not_lt_zero _)
  · rw [List.getElem_append_left (by omega)]
    obtain ⟨m1, m2, m3, m4, m5, m6, m7, o⟩ := h.2.2 k (by omega)
    exact ⟨(h1 _ _ (by omega) (by omega) (by omega)).trans m1, (h1 _ _ (by omega) (by omega) (by omega)).trans m2, (h1 _ _ (by omega) (by omega) (by omega)).trans m3, (h1 _ _ (by omega) (by omega) (by omega)).trans m4, fun j hj => (h1 _ _ (by omega) (by omega) (by omega)).trans (m5 j hj), (h1 _ _ (by omega) (by omega) (by omega)).trans m6, fun j hj => (h1 _ _ (by omega) (by omega) (by omega)).trans (m7 j hj), o⟩
theorem tc_stay {σ : TS} {M : MS} {m a d : Int32} {post : Int32 → TS → Prop} (h : TR σ M) (hp : ∀ σ', TR σ' (mE M, mK M, (aStay (mS M) m a d).2, mT M, mF M) → post (aStay (mS M) m a d).1 σ') : wp_stay post σ m a d := by
  intro z1 hz1
  have h' : TR z1 M := by rw [hz1]; exact h.t
  have hS := h'.sr
  have hl := hS.2.1
  have no : (isD m && wthn a 0 120 && wthn d 1 400 && !(decide ((mS M).length = 24))) = false → post (-1) z1 := fun e => by
    have := hp z1 (by rw [aStay, e]; exact h')
    rw [aStay, e] at this
    exact this
  refine tsp_within ⟨fun hb => ?_, fun hb1 => tsp_within ⟨fun hb => ?_, fun hb2 => tsp_within ⟨fun hb => ?_, fun hb3 => ⟨fun hne => ?_, fun he => ?_⟩⟩⟩⟩
  · exact no (by rw [show isD m = false from hb]; rfl)
  · exact no (by rw [show wthn a 0 120 = false from hb, Bool.and_false]; rfl)
  · exact no (by rw [show wthn d 1 400 = false from hb, Bool.and_false]; rfl)
  · have hl2 : (mS M).length < 24 := by
      rcases Nat.lt_or_ge (mS M).length 24 with z | z
      · exact z
      · exact absurd (by rw [hS.1, show (mS M).length = 24 by omega]) hne
    have e : (isD m && wthn a 0 120 && wthn d 1 400 && !(decide ((mS M).length = 24))) = true := by
      rw [show isD m = true from hb1, show wthn a 0 120 = true from hb2, show wthn d 1 400 = true from hb3, decide_eq_false (by omega)]; rfl
    have hn1 : (nI (mS M).length).toNatClampNeg = (mS M).length := nI_clamp (by omega)
    have hv : vp_in (nI (mS M).length) 24 := vp_inN (by omega) (by omega)
    rw [hS.1, hn1]
    refine ⟨hv, fun z12 hz12 => ?_⟩
    have s12 : sx z12 34 = nI (mS M).length := by rw [hz12, sx_uf]; exact hS.1
    rw [s12, hn1]
    refine ⟨hv, fun z13 hz13 => ?_⟩
    have s13 : sx z13 34 = nI (mS M).length := by rw [hz13, sx_uf]; exact s12
    rw [s13, hn1]
    refine ⟨hv, fun z14 hz14 => ?_⟩
    have s14 : sx z14 34 = nI (mS M).length := by rw [hz14, sx_uf]; exact s13
    rw [s14, hn1]
    refine ⟨hv, fun z15 hz15 => ?_⟩
    have s15 : sx z15 34 = nI (mS M).length := by rw [hz15, sx_uf]; exact s14
    rw [s15, hn1]
    refine ⟨hv, fun z16 hz16 z17 hz17 => ?_⟩
    have s16 : sx z16 34 = nI (mS M).length := by rw [hz16, sx_uf]; exact s15
    have s17 : sx z17 34 = nI ((mS M).length + 1) := by rw [hz17, sx_ux, if_pos rfl, s16, nI_add]
    rw [s17, nI_sub (by omega), Nat.add_sub_cancel]
    have hx17 : ∀ k, k ≠ 34 → sx z17 k = sx z1 k := fun k hk => by rw [hz17, sx_ux, if_neg hk, hz16, sx_uf, hz15, sx_uf, hz14, sx_uf, hz13, sx_uf, hz12, sx_uf]
    have hf17 : ∀ x j, sf z17 x j = if x = 40 ∧ j = (mS M).length then nI 0 else if x = 38 ∧ j = (mS M).length then nI 0 else if x = 37 ∧ j = (mS M).length then d else if x = 36 ∧ j = (mS M).length then a else if x = 35 ∧ j = (mS M).length then m else sf z1 x j := fun x j => by rw [hz17, sf_ux, hz16, sf_uf, hz15, sf_uf, hz14, sf_uf, hz13, sf_uf, hz12, sf_uf]
    have hg17 : ∀ x j, sg z17 x j = sg z1 x j := fun x j => by rw [hz17, sg_ux, hz16, sg_uf, hz15, sg_uf, hz14, sg_uf, hz13, sg_uf, hz12, sg_uf]
    have hsame : ∀ x j, x < 35 ∨ 41 < x → sf z17 x j = sf z1 x j := fun x j hx => by
      rw [hf17, if_neg (by omega), if_neg (by omega), if_neg (by omega), if_neg (by omega), if_neg (by omega)]
    have hs17 : SR z17 (mS M ++ [(m, a, d, [], [])]) := by
      refine hS.snoc hl2 ⟨hb1, List.Pairwise.nil, List.Pairwise.nil, fun _ z => (by cases z), fun _ z => (by cases z), Nat.zero_le _, Nat.zero_le _⟩ ⟨rfl, rfl⟩ s17 (fun x j h1 h2 h3 => ?_) ?_ ?_ ?_ ?_ ?_
      · rw [hf17, if_neg (by omega), if_neg (by omega), if_neg (by omega), if_neg (by omega), if_neg (by omega)]
      · rw [hf17, if_neg (by omega), if_neg (by omega), if_neg (by omega), if_neg (by omega), if_pos ⟨rfl, rfl⟩]
      · rw [hf17, if_neg (by omega), if_neg (by omega), if_neg (by omega), if_pos ⟨rfl, rfl⟩]
      · rw [hf17, if_neg (by omega), if_neg (by omega), if_pos ⟨rfl, rfl⟩]
      · rw [hf17, if_neg (by omega), if_pos ⟨rfl, rfl⟩]
      · rw [hf17, if_pos ⟨rfl, rfl⟩]
    have hp2 := hp z17
    rw [aStay, if_pos e] at hp2
    refine hp2 ?_
    obtain ⟨a9, b9, c9, h1, h2, h3, h4, h5, h6, h7, h8, h9, h10, h11⟩ := h'
    exact ⟨a9, b9, c9, h1, (hx17 _ (by omega)).trans h2, (hx17 _ (by omega)).trans h3, (hx17 _ (by omega)).trans h4, h5.same (fun x j _ _ _ => hsame x j (by omega)) (fun x j _ _ => hg17 x j), h6, h7.same (hx17 _ (by omega)) (fun E z => z.same (fun x j _ _ _ => hsame x j (by omega)) (fun x j _ _ => hg17 x j)), hs17, h9.same (hx17 _ (by omega)) (fun x j _ => hsame x j (by omega)), h10.same (hx17 _ (by omega)) (fun j => hsame 0 j (by omega)), (hx17 _ (by omega)).trans h11⟩
  · refine no ?_
    rw [hS.1] at he
    have := (nI_eq (by omega) (by omega)).mp he
    rw [decide_eq_true this]
    simp
theorem set_upS {ss : List St} {k : Nat} {s : St} (hk : k < 1000) : ss.set k s = upS ss (nI k) s := by rw [upS, ix, nI_clamp (by omega)]
theorem tc_code {σ : TS} {M : MS} {i c : Int32} {post : Int32 → TS → Prop} (h : TR σ M) (hp : ∀ σ', TR σ' (mE M, mK M, (aCode (mS M) i c).2, mT M, mF M) → post (aCode (mS M) i c).1 σ') : wp_code post σ i c := by
  intro z1 hz1
  have h' : TR z1 M := by rw [hz1]; exact h.t
  have hS := h'.sr
  have hl := hS.2.1
  rcases isSt_or (n := (mS M).length) (by omega) i with e | ⟨k, hk, rfl⟩
  · have hp' := hp z1
    rw [aCode, gst_none e] at hp'
    exact tsp_canCome0 hS e ⟨fun z => (by cases z), fun _ => hp' h'⟩
  · rw [aCode, gst_some (by omega) hk] at hp
    refine tsp_canCome hS hk ⟨fun hb => ?_, fun hb => ?_⟩
    · simp only [hb, if_true] at hp
      have hf := sFit.may hb
      refine tsp_adds hS hk hf (fun σ' hS' q => ?_)
      have hTR := h'.s q hS'
      rw [set_upS (by omega)] at hTR
      have hp' := hp σ' hTR
      have hkl : k < ((mS M).set k (sPut (mS M)[k] c)).length := by rw [List.length_set]; exact hk
      obtain ⟨m1, m2, m3, m4, m5, m6, m7, o⟩ := hS'.2.2 k hkl
      rw [List.getElem_set_self] at m4 m6
      rw [nI_clamp (show k < 2 ^ 31 by omega), m4, m6]
      refine ⟨fun hlt => ⟨vp_inN (by omega) (by omega), ?_⟩, fun hlt => ⟨vp_inN (by omega) (by omega), ?_⟩⟩
      · have hd : isD c = true := by
          rcases hf.1 with z | z
          · exact z
          · exact absurd hlt (isP_nlt z)
        rw [sRow, hd] at hp'
        exact hp'
      · have hd : isD c = false := by
          cases z : isD c with
          | false => rfl
          | true => exact absurd (isD_lt z) hlt
        rw [sRow, hd] at hp'
        exact hp'
    · simp only [hb, Bool.false_eq_true, if_false] at hp
      exact hp z1 h'
theorem tc_drop {σ : TS} {M : MS} {i c : Int32} {post : Bool → TS → Prop} (h : TR σ M) (hp : ∀ σ', TR σ' (mE M, mK M, (aDrop (mS M) i c).2, mT M, mF M) → post (aDrop (mS M) i c).1 σ') : wp_drop post σ i c := by
  intro z1 hz1
  have h' : TR z1 M := by rw [hz1]; exact h.t
  have hS := h'.sr
  have hl := hS.2.1
  rcases isSt_or (n := (mS M).length) (by omega) i with e | ⟨k, hk, rfl⟩
  · have hp' := hp z1
    rw [aDrop, gst_none e] at hp'
    exact tsp_canGo0 hS e ⟨fun z => (by cases z), fun _ => hp' h'⟩
  · rw [aDrop, gst_some (by omega) hk] at hp
    refine tsp_canGo hS hk ⟨fun hb => ?_, fun hb => ?_⟩
    · have hm := of_decide_eq_true hb
      simp only [if_pos hm] at hp
      refine tsp_takes hS hk hm (fun σ' hS' q => ?_)
      have hTR := h'.s q hS'
      rw [set_upS (by omega)] at hTR
      exact hp σ' hTR
    · have hm := of_decide_eq_false hb
      simp only [if_neg hm] at hp
      exact hp z1 h'
theorem tc_clear {σ : TS} {M : MS} {post : Int32 → TS → Prop} (h : TR σ M) (hp : ∀ σ', TR σ' (mE M, mK M, [], mT M, mF M) → post (nI (mS M).length) σ') : wp_clear post σ := by
  intro z1 hz1 x2 hx2 z3 hz3
  have h' : TR z1 M := by rw [hz1]; exact h.t
  rw [hx2, h'.sr.1]
  refine hp z3 ?_
  obtain ⟨a, b, c, h1, h2, h3, h4, h5, h6, h7, h8, h9, h10, h11⟩ := h'
  rw [hz3]
  exact ⟨a, b, c, h1, h2, h3, h4, h5, h6, h7.same rfl (fun E z => z), ⟨by rw [sx_ux, if_pos rfl]; rfl, Nat.zero_le _, fun k hk => absurd hk (Nat.not_lt_zero _)⟩, h9, h10, h11⟩
theorem SR.setM {σ σ1 : TS} {ss : List St} {k x : Nat} {v : Int32} (h : SR σ ss) (hk : k < ss.length) (hx : x = 35 ∨ x = 36 ∨ x = 37) (s : St) (e1 : sMain s = if x = 35 then v else sMain ss[k]) (e2 : sAge s = if x = 36 then v else sAge ss[k]) (e3 : sDays s = if x = 37 then v else sDays ss[k]) (e4 : sSecs s = sSecs ss[k]) (e5 : sProcs s = sProcs ss[k]) (ho : stOk s) (hσ : σ1 = uf σ x k v) : SR σ1 (ss.set k s) := by
  subst hσ
  refine ⟨by rw [sx_uf, List.length_set]; exact h.1, by rw [List.length_set]; exact h.2.1, fun j hj => ?_⟩
  rw [List.length_set] at hj
  rw [List.getElem_set]
  obtain ⟨m1, m2, m3, m4, m5, m6, m7, o1⟩ := h.2.2 j hj
  by_cases e : k = j
  · subst e
    rw [if_pos rfl]
    refine ⟨?_, ?_, ?_, ?_, fun i hi => ?_, ?_, fun i hi => ?_, ho⟩
    · rw [sf_uf, e1, m1]
      by_cases z : x = 35
      · rw [if_pos ⟨z.symm, rfl⟩, if_pos z]
      · rw [if_neg (by omega), if_neg z]
    · rw [sf_uf, e2, m2]
      by_cases z : x = 36
      · rw [if_pos ⟨z.symm, rfl⟩, if_pos z]
      · rw [if_neg (by omega), if_neg z]
    · rw [sf_uf, e3, m3]
      by_cases z : x = 37
      · rw [if_pos ⟨z.symm, rfl⟩, if_pos z]
      · rw [if_neg (by omega), if_neg z]
    · rw [sf_uf, if_neg (by omega), e4]; exact m4
    · rw [sf_uf, if_neg (by omega)]
      have := m5 i (by rw [← e4]; exact hi)
      rw [this]
      simp only [e4]
    · rw [sf_uf, if_neg (by omega), e5]; exact m6
    · rw [sf_uf, if_neg (by omega)]
      have := m7 i (by rw [← e5]; exact hi)
      rw [this]
      simp only [e5]
  · rw [if_neg e]
    exact ⟨by rw [sf_uf, if_neg (by omega)]; exact m1, by rw [sf_uf, if_neg (by omega)]; exact m2, by rw [sf_uf, if_neg (by omega)]; exact m3, by rw [sf_uf, if_neg (by omega)]; exact m4, fun i hi => by rw [sf_uf, if_neg (by omega)]; exact m5 i hi, by rw [sf_uf, if_neg (by omega)]; exact m6, fun i hi => by rw [sf_uf, if_neg (by omega)]; exact m7 i hi, o1⟩
theorem tc_alter {σ : TS} {M : MS} {i w v : Int32} {post : Int32 → TS → Prop} (h : TR σ M) (hp : ∀ σ', TR σ' (mE M, mK M, (aAlter (mS M) i w v).2, mT M, mF M) → post (aAlter (mS M) i w v).1 σ') : wp_alter post σ i w v := by
  intro z1 hz1
  have h' : TR z1 M := by rw [hz1]; exact h.t
  have hS := h'.sr
  have hl := hS.2.1
  refine tsp_isStay hS ?_
  rcases isSt_or (n := (mS M).length) (by omega) i with e | ⟨k, hk, rfl⟩
  · have hp' := hp z1
    rw [aAlter, gst_none e] at hp'
    rw [e]
    exact ⟨fun _ => hp' h', fun z => by cases z⟩
  · rw [isSt_at (by omega) hk]
    rw [aAlter, gst_some (by omega) hk] at hp
    refine ⟨fun z => (by cases z), fun _ => tsp_within ⟨fun hb => ?_, fun hb => ?_⟩⟩
    · obtain ⟨m1, m2, m3, m4, m5, m6, m7, o⟩ := hS.2.2 k hk
      have hv24 : vp_in (nI k) 24 := vp_inN (by omega) (by omega)
      have no : isSoM w v = false → post (-1) z1 := fun e => by
        simp only [e, Bool.false_eq_true, if_false] at hp
        exact hp z1 h'
      rw [nI_clamp (show k < 2 ^ 31 by omega)]
      have e01 : ¬ (nI 1 = nI 0) := by decide
      have e02 : ¬ (nI 2 = nI 0) := by decide
      have e12 : ¬ (nI 2 = nI 1) := by decide
      refine ⟨fun z10 => z10 = z1 ∧ isSoM w v = true, ?_, ⟨fun hw0 => ⟨fun hw1 => tsp_within ⟨fun hb2 => ⟨rfl, ?_⟩, fun hb2 => no ?_⟩, fun hw1 => tsp_within ⟨fun hb2 => ⟨rfl, ?_⟩, fun hb2 => no ?_⟩⟩, fun hw0 => tsp_within ⟨fun hb2 => ⟨rfl, ?_⟩, fun hb2 => no ?_⟩⟩⟩
      · rintro z10 ⟨rfl, hso⟩
        simp only [hso, if_true] at hp
        refine ⟨fun hw0 => ⟨fun hw1 => ⟨hv24, fun x13 hx13 => ⟨hv24, fun z14 hz14 => ?_⟩⟩, fun hw1 => ⟨hv24, fun x15 hx15 => ⟨hv24, fun z16 hz16 => ?_⟩⟩⟩, fun hw0 => ⟨hv24, fun x17 hx17 => ⟨hv24, fun z18 hz18 => ?_⟩⟩⟩
        · rw [if_neg (by rw [nI_0]; exact hw0), if_neg hw1] at hp
          have hSR := SR.setM (v := v) hS hk (Or.inr (Or.inr rfl)) (sMain (mS M)[k], sAge (mS M)[k], v, sSecs (mS M)[k], sProcs (mS M)[k]) rfl rfl rfl rfl rfl o hz14
          have hTR := h'.s (by rw [hz14]; exact (SF.rf _).put (by omega) (by omega)) hSR
          rw [set_upS (by omega)] at hTR
          have := hp z14 hTR
          rw [hx13, m3]
          exact this
        · rw [if_neg (by rw [nI_0]; exact hw0), if_pos hw1] at hp
          have hSR := SR.setM (v := v) hS hk (Or.inr (Or.inl rfl)) (sMain (mS M)[k], v, sDays (mS M)[k], sSecs (mS M)[k], sProcs (mS M)[k]) rfl rfl rfl rfl rfl o hz16
          have hTR := h'.s (by rw [hz16]; exact (SF.rf _).put (by omega) (by omega)) hSR
          rw [set_upS (by omega)] at hTR
          have := hp z16 hTR
          rw [hx15, m2]
          exact this
        · rw [if_pos (by rw [nI_0]; exact hw0)] at hp
          have hdv : isD v = true := by
            unfold isSoM at hso
            rw [if_pos (by rw [nI_0]; exact hw0)] at hso
            exact hso
          have o' : stOk (v, sAge (mS M)[k], sDays (mS M)[k], sSecs (mS M)[k], sProcs (mS M)[k]) := ⟨hdv, o.2⟩
          have hSR := SR.setM (v := v) hS hk (Or.inl rfl) (v, sAge (mS M)[k], sDays (mS M)[k], sSecs (mS M)[k], sProcs (mS M)[k]) rfl rfl rfl rfl rfl o' hz18
          have hSF : SF z10 z18 := by rw [hz18]; exact (SF.rf _).put (by omega) (by omega)
          have hkl : k < ((mS M).set k (v, sAge (mS M)[k], sDays (mS M)[k], sSecs (mS M)[k], sProcs (mS M)[k])).length := by rw [List.length_set]; exact hk
          have hrow : sRow (v, sAge (mS M)[k], sDays (mS M)[k], sSecs (mS M)[k], sProcs (mS M)[k]) v = sSecs (mS M)[k] := by rw [sRow, hdv]; rfl
          rw [hx17, m1]
          refine tsp_canGo hSR hkl ?_
          rw [List.getElem_set_self, hrow]
          refine ⟨fun hb3 => ?_, fun hb3 => ?_⟩
          · have hm := of_decide_eq_false hb3
            rw [sMn, if_neg hm] at hp
            have hTR := h'.s hSF hSR
            rw [set_upS (by omega)] at hTR
            exact hp z18 hTR
          · have hm := of_decide_eq_true hb3
            rw [sMn, if_pos hm] at hp
            refine tsp_takes hSR hkl (by rw [List.getElem_set_self, hrow]; exact hm) (fun σ' hS' q => ?_)
            rw [List.getElem_set_self, List.set_set] at hS'
            have hTR := h'.s (hSF.tr q) hS'
            rw [set_upS (by omega)] at hTR
            exact hp σ' hTR
      · have hw2 : w = nI 2 := by
          have hb' := wthn_iff.mp hb
          rw [nI_toInt (by omega), nI_toInt (by omega)] at hb'
          have h0 : w.toInt ≠ 0 := fun z => hw0 (Int32.toInt_inj.mp z)
          have h1 : w.toInt ≠ 1 := fun z => hw1 (Int32.toInt_inj.mp (z.trans (nI_toInt (n := 1) (by omega)).symm))
          exact Int32.toInt_inj.mp ((show w.toInt = 2 by omega).trans (nI_toInt (n := 2) (by omega)).symm)
        rw [isSoM, hw2, if_neg e02, if_neg e12, if_pos rfl]; exact hb2
      · have hw2 : w = nI 2 := by
          have hb' := wthn_iff.mp hb
          rw [nI_toInt (by omega), nI_toInt (by omega)] at hb'
          have h0 : w.toInt ≠ 0 := fun z => hw0 (Int32.toInt_inj.mp z)
          have h1 : w.toInt ≠ 1 := fun z => hw1 (Int32.toInt_inj.mp (z.trans (nI_toInt (n := 1) (by omega)).symm))
          exact Int32.toInt_inj.mp ((show w.toInt = 2 by omega).trans (nI_toInt (n := 2) (by omega)).symm)
        rw [isSoM, hw2, if_neg e02, if_neg e12, if_pos rfl]; exact hb2
      · rw [isSoM, hw1, if_neg e01, if_pos rfl]; exact hb2
      · rw [isSoM, hw1, if_neg e01, if_pos rfl]; exact hb2
      · rw [isSoM, if_pos (by rw [nI_0]; exact hw0)]; exact hb2
      · rw [isSoM, if_pos (by rw [nI_0]; exact hw0)]; exact hb2
    · have hso : isSoM w v = false := by
        have hb' : ∀ z, z = w → ¬ (wthn z (nI 0) (nI 2) = true) := fun z e z2 => by rw [e, hb] at z2; cases z2
        unfold isSoM
        rw [if_neg (fun z => hb' _ z.symm (by decide)), if_neg (fun z => hb' _ z.symm (by decide)), if_neg (fun z => hb' _ z.symm (by decide))]
      simp only [hso, Bool.false_eq_true, if_false] at hp
      exact hp z1 h'
