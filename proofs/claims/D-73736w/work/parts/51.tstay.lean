/-! The model's side: stays -/
set_option maxRecDepth 100000
theorem wthn_iff {v lo hi : Int32} : wthn v lo hi = true ↔ lo.toInt ≤ v.toInt ∧ v.toInt ≤ hi.toInt := by
  unfold wthn
  simp only [Bool.and_eq_true, Bool.not_eq_true', decide_eq_false_iff_not, Int32.lt_iff_toInt_lt]
  omega
theorem isD_iff {c : Int32} : isD c = true ↔ 0 ≤ c.toInt ∧ c.toInt ≤ 999 := wthn_iff
theorem isP_iff {c : Int32} : isP c = true ↔ 1000 ≤ c.toInt ∧ c.toInt ≤ 1499 := wthn_iff
theorem lt1000 {c : Int32} : c < nI 1000 ↔ c.toInt < 1000 := Int32.lt_iff_toInt_lt
theorem isD_lt {c : Int32} (h : isD c = true) : c < nI 1000 := by
  have := isD_iff.mp h
  exact lt1000.mpr (by omega)
theorem isP_nlt {c : Int32} (h : isP c = true) : ¬ c < nI 1000 := by
  have := isP_iff.mp h
  exact fun z => by have := lt1000.mp z; omega
theorem isDP {c : Int32} (h : isP c = true) : isD c = false := by
  have := isP_iff.mp h
  cases e : isD c with
  | false => rfl
  | true => have := isD_iff.mp e; omega
/-- a stay is in order -/
def stOk (s : St) : Prop := isD (sMain s) = true ∧ asc (sSecs s) ∧ asc (sProcs s) ∧ (∀ c ∈ sSecs s, isD c = true) ∧ (∀ c ∈ sProcs s, isP c = true) ∧ (sSecs s).length ≤ 8 ∧ (sProcs s).length ≤ 6
def sr1 (σ : TS) (k : Nat) (s : St) : Prop := sf σ 35 k = sMain s ∧ sf σ 36 k = sAge s ∧ sf σ 37 k = sDays s ∧ sf σ 38 k = nI (sSecs s).length ∧ rw9 σ 39 (8 * k) (sSecs s) ∧ sf σ 40 k = nI (sProcs s).length ∧ rw9 σ 41 (6 * k) (sProcs s) ∧ stOk s
def SR (σ : TS) (ss : List St) : Prop := sx σ 34 = nI ss.length ∧ ss.length ≤ 24 ∧ ∀ k (h : k < ss.length), sr1 σ k ss[k]
def isSt (n : Nat) (i : Int32) : Bool := wthn i (nI 0) (nI n - nI 1)
theorem tsp_isStay {σ : TS} {ss : List St} {i : Int32} {post : Bool → TS → Prop} (h : SR σ ss) (hp : post (isSt ss.length i) σ) : wp_isStay post σ i := by
  unfold wp_isStay
  rw [h.1]
  exact tsp_within hp
theorem isSt_iff {n : Nat} {i : Int32} (hn : n ≤ 1000) : isSt n i = true ↔ ∃ k, k < n ∧ i = nI k := by
  unfold isSt wthn
  simp only [Bool.and_eq_true, Bool.not_eq_true', decide_eq_false_iff_not]
  constructor
  · rintro ⟨h1, h2⟩
    rw [nI_0] at h1
    obtain ⟨j, hj, rfl⟩ := nI_of h1
    refine ⟨j, ?_, rfl⟩
    rcases Nat.eq_zero_or_pos n with e | e
    · subst e
      have h3 : nI 0 - nI 1 < nI j := by
        have : nI 0 - nI 1 = -1 := by decide +kernel
        rw [this]
        exact Int32.lt_of_lt_of_le (by decide) (nI_pos' hj)
      exact absurd h3 h2
    · rw [nI_sub e] at h2
      rcases Nat.lt_or_ge j n with z | z
      · exact z
      · exact absurd (nI_lt (by omega) hj) h2
  · rintro ⟨k, hk, rfl⟩
    refine ⟨by rw [nI_0]; exact nI_pos (by omega), ?_⟩
    rw [nI_sub (by omega)]
    exact nI_nlt (by omega) (by omega)
theorem isSt_at {n k : Nat} (hn : n ≤ 1000) (hk : k < n) : isSt n (nI k) = true := (isSt_iff hn).mpr ⟨k, hk, rfl⟩
theorem tsp_canCome {σ : TS} {ss : List St} {k : Nat} {c : Int32} {post : Bool → TS → Prop} (h : SR σ ss) (hk : k < ss.length) (hp : post (sMay ss[k] c) σ) : wp_canCome post σ (nI k) c := by
  have hn := h.2.1
  have hc : (nI k).toNatClampNeg = k := nI_clamp (by omega)
  obtain ⟨m1, m2, m3, m4, m5, m6, m7, o1, o2, o3, o4, o5, o6, o7⟩ := h.2.2 k hk
  have hv : vp_in (nI k) 24 := vp_inN (by omega) (by omega)
  unfold wp_canCome
  rw [hc, nI_mul, nI_mul]
  refine tsp_isStay h ?_
  rw [isSt_at (by omega) hk]
  refine ⟨fun e => (by cases e), fun _ => tsp_within ⟨fun hb => ?_, fun hb => ?_⟩⟩
  · have hb' := wthn_iff.mp hb
    have e1 : (nI 0).toInt = 0 := nI_toInt (by omega)
    have e2 : (nI 1499).toInt = 1499 := nI_toInt (by omega)
    rw [e1, e2] at hb'
    refine ⟨fun hlt => ?_, fun hlt => ?_⟩
    · have hd : isD c = true := isD_iff.mpr (by have := lt1000.mp hlt; omega)
      refine ⟨hv, fun he => ?_, fun hne => ⟨hv, fun h8 => ?_, fun h8 => ⟨hv, ?_⟩⟩⟩
      · rw [m1] at he
        have : sMay ss[k] c = false := by unfold sMay; rw [decide_eq_true he]; simp
        rw [this] at hp; exact hp
      · rw [m4] at h8
        have h9 := (nI_leI (by omega) (by omega)).mp h8
        have : sMay ss[k] c = false := by
          unfold sMay sRow
          rw [hd]
          simp only [if_true]
          rw [decide_eq_false (show ¬ (sSecs ss[k]).length < 8 by omega)]
          simp
        rw [this] at hp; exact hp
      · rw [m1] at hne
        rw [m4] at h8 ⊢
        have h9 : (sSecs ss[k]).length < 8 := by
          rcases Nat.lt_or_ge (sSecs ss[k]).length 8 with z | z
          · exact z
          · exact absurd (nI_le z (by omega)) h8
        refine tsp_find rfl (by decide) (by show 8 * k + _ ≤ 192; omega) m5 ⟨fun hge => ?_, fun hge => ?_⟩
        · have hm : c ∈ sSecs ss[k] := Classical.byContradiction fun z => absurd ((plcI_neg (by omega)).mpr z) (Int32.not_lt.mpr hge)
          have : sMay ss[k] c = false := by
            unfold sMay sRow
            rw [hd]
            simp only [if_true]
            rw [decide_eq_true hm]
            simp
          rw [this] at hp; exact hp
        · have hm : c ∉ sSecs ss[k] := (plcI_neg (by omega)).mp (Int32.not_le.mp hge)
          have : sMay ss[k] c = true := by
            unfold sMay sRow
            rw [hd]
            simp only [if_true]
            rw [decide_eq_false hm, decide_eq_false hne, decide_eq_true h9]
            rfl
          rw [this] at hp; exact hp
    · have hq : isP c = true := isP_iff.mpr (by have : ¬ c.toInt < 1000 := fun z => hlt (lt1000.mpr z); omega)
      have hd : isD c = false := isDP hq
      have hne : ¬ c = sMain ss[k] := fun e => by rw [← e] at o1; rw [hd] at o1; cases o1
      refine ⟨hv, fun h8 => ?_, fun h8 => ⟨hv, ?_⟩⟩
      · rw [m6] at h8
        have h9 := (nI_leI (by omega) (by omega)).mp h8
        have : sMay ss[k] c = false := by
          unfold sMay sRow
          rw [hd]
          simp only [Bool.false_eq_true, if_false]
          rw [decide_eq_false (show ¬ (sProcs ss[k]).length < 6 by omega)]
          simp
        rw [this] at hp; exact hp
      · rw [m6] at h8 ⊢
        have h9 : (sProcs ss[k]).length < 6 := by
          rcases Nat.lt_or_ge (sProcs ss[k]).length 6 with z | z
          · exact z
          · exact absurd (nI_le z (by omega)) h8
        refine tsp_find rfl (by decide) (by show 6 * k + _ ≤ 144; omega) m7 ⟨fun hge => ?_, fun hge => ?_⟩
        · have hm : c ∈ sProcs ss[k] := Classical.byContradiction fun z => absurd ((plcI_neg (by omega)).mpr z) (Int32.not_lt.mpr hge)
          have : sMay ss[k] c = false := by
            unfold sMay sRow
            rw [hd]
            simp only [Bool.false_eq_true, if_false]
            rw [decide_eq_true hm]
            simp
          rw [this] at hp; exact hp
        · have hm : c ∉ sProcs ss[k] := (plcI_neg (by omega)).mp (Int32.not_le.mp hge)
          have : sMay ss[k] c = true := by
            unfold sMay sRow
            rw [hd, hq]
            simp only [Bool.false_eq_true, if_false]
            rw [decide_eq_false hm, decide_eq_false hne, decide_eq_true h9]
            rfl
          rw [this] at hp; exact hp
  · have hnd : isD c = false := by
      cases e : isD c with
      | false => rfl
      | true =>
        have := isD_iff.mp e
        have h9 : wthn c (nI 0) (nI 1499) = true := wthn_iff.mpr (by rw [nI_toInt (by omega), nI_toInt (by omega)]; omega)
        rw [h9] at hb; cases hb
    have hnp : isP c = false := by
      cases e : isP c with
      | false => rfl
      | true =>
        have := isP_iff.mp e
        have h9 : wthn c (nI 0) (nI 1499) = true := wthn_iff.mpr (by rw [nI_toInt (by omega), nI_toInt (by omega)]; omega)
        rw [h9] at hb; cases hb
    have : sMay ss[k] c = false := by unfold sMay; rw [hnd, hnp]; rfl
    rw [this] at hp; exact hp
theorem tsp_canCome0 {σ : TS} {ss : List St} {i c : Int32} {post : Bool → TS → Prop} (h : SR σ ss) (h0 : isSt ss.length i = false) (hp : post false σ) : wp_canCome post σ i c := by
  refine tsp_isStay h ?_
  rw [h0]
  exact ⟨fun _ => hp, fun e => by cases e⟩
theorem tsp_canGo0 {σ : TS} {ss : List St} {i c : Int32} {post : Bool → TS → Prop} (h : SR σ ss) (h0 : isSt ss.length i = false) (hp : post false σ) : wp_canGo post σ i c := by
  refine tsp_isStay h ?_
  rw [h0]
  exact ⟨fun e => (by cases e), fun _ => hp⟩
theorem tsp_canGo {σ : TS} {ss : List St} {k : Nat} {c : Int32} {post : Bool → TS → Prop} (h : SR σ ss) (hk : k < ss.length) (hp : post (decide (c ∈ sRow ss[k] c)) σ) : wp_canGo post σ (nI k) c := by
  have hn := h.2.1
  have hc : (nI k).toNatClampNeg = k := nI_clamp (by omega)
  obtain ⟨m1, m2, m3, m4, m5, m6, m7, o1, o2, o3, o4, o5, o6, o7⟩ := h.2.2 k hk
  have hv : vp_in (nI k) 24 := vp_inN (by omega) (by omega)
  unfold wp_canGo
  rw [hc, nI_mul, nI_mul]
  refine tsp_isStay h ?_
  rw [isSt_at (by omega) hk]
  refine ⟨fun _ => ⟨fun hlt => ⟨hv, ?_⟩, fun hlt => ⟨hv, ?_⟩⟩, fun e => by cases e⟩
  · rw [m4]
    have hi : c ∈ sSecs ss[k] ↔ c ∈ sRow ss[k] c := by
      unfold sRow
      cases e : isD c with
      | true => rfl
      | false =>
        have h1 : c ∉ sSecs ss[k] := fun z => by rw [o4 c z] at e; cases e
        have h2 : c ∉ sProcs ss[k] := fun z => isP_nlt (o5 c z) hlt
        exact ⟨fun z => absurd z h1, fun z => absurd z h2⟩
    refine tsp_find rfl (by decide) (by show 8 * k + _ ≤ 192; omega) m5 ⟨fun h9 => ?_, fun h9 => ?_⟩
    · have hm := (plcI_neg (by omega)).mp h9
      rw [decide_eq_false (fun z => hm (hi.mpr z))] at hp; exact hp
    · have hm : c ∈ sSecs ss[k] := Classical.byContradiction fun z => h9 ((plcI_neg (by omega)).mpr z)
      rw [decide_eq_true (hi.mp hm)] at hp; exact hp
  · rw [m6]
    have hi : c ∈ sProcs ss[k] ↔ c ∈ sRow ss[k] c := by
      unfold sRow
      cases e : isD c with
      | false => rfl
      | true => exact absurd (isD_lt e) hlt
    refine tsp_find rfl (by decide) (by show 6 * k + _ ≤ 144; omega) m7 ⟨fun h9 => ?_, fun h9 => ?_⟩
    · have hm := (plcI_neg (by omega)).mp h9
      rw [decide_eq_false (fun z => hm (hi.mpr z))] at hp; exact hp
    · have hm : c ∈ sProcs ss[k] := Classical.byContradiction fun z => h9 ((plcI_neg (by omega)).mpr z)
      rw [decide_eq_true (hi.mp hm)] at hp; exact hp
/-- only the stays are others -/
def SF (σ σ' : TS) : Prop := (∀ k, sx σ' k = sx σ k) ∧ sw σ' = sw σ ∧ (∀ a j, sg σ' a j = sg σ a j) ∧ ∀ a j, (a < 35 ∨ 41 < a) → sf σ' a j = sf σ a j
theorem SF.rf (σ : TS) : SF σ σ := ⟨fun _ => rfl, rfl, fun _ _ => rfl, fun _ _ _ => rfl⟩
theorem SF.tr {a b c : TS} (h : SF a b) (k : SF b c) : SF a c := ⟨fun i => (k.1 i).trans (h.1 i), k.2.1.trans h.2.1, fun i j => (k.2.2.1 i j).trans (h.2.2.1 i j), fun i j z => (k.2.2.2 i j z).trans (h.2.2.2 i j z)⟩
theorem SF.put {σ σ' : TS} {a i : Nat} {v : Int32} (h : SF σ σ') (h1 : 35 ≤ a) (h2 : a ≤ 41) : SF σ (uf σ' a i v) := ⟨h.1, h.2.1, h.2.2.1, fun b j hb => by rw [sf_uf, if_neg (by omega)]; exact h.2.2.2 b j hb⟩
theorem S1.sf {σ σ' : TS} {k0 b n : Nat} (h : S1 σ σ' k0 b n) (h1 : 35 ≤ k0) (h2 : k0 ≤ 41) : SF σ σ' := ⟨h.1, h.2.1, h.2.2.1, fun a j ha => h.2.2.2 a j (Or.inl (by omega))⟩
theorem SR.setD {σ σ1 : TS} {ss : List St} {k n : Nat} {vs : List Int32} (h : SR σ ss) (hk : k < ss.length) (hS : S1 σ σ1 39 (8 * k) n) (hn : n ≤ 8) (hr : rw9 σ1 39 (8 * k) vs) (ho : stOk (sMain ss[k], sAge ss[k], sDays ss[k], vs, sProcs ss[k])) : SR (uf σ1 38 k (nI vs.length)) (ss.set k (sMain ss[k], sAge ss[k], sDays ss[k], vs, sProcs ss[k])) := by
  refine ⟨by rw [sx_uf, hS.1, List.length_set]; exact h.1, by rw [List.length_set]; exact h.2.1, fun j hj => ?_⟩
  rw [List.length_set] at hj
  rw [List.getElem_set]
  obtain ⟨m1, m2, m3, m4, m5, m6, m7, o1⟩ := h.2.2 j hj
  by_cases e : k = j
  · subst e
    rw [if_pos rfl]
    refine ⟨?_, ?_, ?_, ?_, fun i hi => ?_, ?_, fun i hi => ?_, ho⟩
    · rw [sf_uf, if_neg (by omega), hS.2.2.2 _ _ (Or.inl (by omega))]; exact m1
    · rw [sf_uf, if_neg (by omega), hS.2.2.2 _ _ (Or.inl (by omega))]; exact m2
    · rw [sf_uf, if_neg (by omega), hS.2.2.2 _ _ (Or.inl (by omega))]; exact m3
    · rw [sf_uf, if_pos ⟨rfl, rfl⟩]
    · rw [sf_uf, if_neg (by omega)]; exact hr i hi
    · rw [sf_uf, if_neg (by omega), hS.2.2.2 _ _ (Or.inl (by omega))]; exact m6
    · rw [sf_uf, if_neg (by omega), hS.2.2.2 _ _ (Or.inl (by omega))]; exact m7 i hi
  · rw [if_neg e]
    have hl := o1.2.2.2.2.2.1
    refine ⟨?_, ?_, ?_, ?_, fun i hi => ?_, ?_, fun i hi => ?_, o1⟩
    · rw [sf_uf, if_neg (by omega), hS.2.2.2 _ _ (Or.inl (by omega))]; exact m1
    · rw [sf_uf, if_neg (by omega), hS.2.2.2 _ _ (Or.inl (by omega))]; exact m2
    · rw [sf_uf, if_neg (by omega), hS.2.2.2 _ _ (Or.inl (by omega))]; exact m3
    · rw [sf_uf, if_neg (by omega), hS.2.2.2 _ _ (Or.inl (by omega))]; exact m4
    · rw [sf_uf, if_neg (by omega), hS.2.2.2 _ _ (Or.inr (by omega))]; exact m5 i hi
    · rw [sf_uf, if_neg (by omega), hS.2.2.2 _ _ (Or.inl (by omega))]; exact m6
    · rw [sf_uf, if_neg (by omega), hS.2.2.2 _ _ (Or.inl (by omega))]; exact m7 i hi
theorem SR.setP {σ σ1 : TS} {ss : List St} {k n : Nat} {vs : List Int32} (h : SR σ ss) (hk : k < ss.length) (hS : S1 σ σ1 41 (6 * k) n) (hn : n ≤ 6) (hr : rw9 σ1 41 (6 * k) vs) (ho : stOk (sMain ss[k], sAge ss[k], sDays ss[k], sSecs ss[k], vs)) : SR (uf σ1 40 k (nI vs.length)) (ss.set k (sMain ss[k], sAge ss[k], sDays ss[k], sSecs ss[k], vs)) := by
  refine ⟨by rw [sx_uf, hS.1, List.length_set]; exact h.1, by rw [List.length_set]; exact h.2.1, fun j hj => ?_⟩
  rw [List.length_set] at hj
  rw [List.getElem_set]
  obtain ⟨m1, m2, m3, m4, m5, m6, m7, o1⟩ := h.2.2 j hj
  by_cases e : k = j
  · subst e
    rw [if_pos rfl]
    refine ⟨?_, ?_, ?_, ?_, fun i hi => ?_, ?_, fun i hi => ?_, ho⟩
    · rw [sf_uf, if_neg (by omega), hS.2.2.2 _ _ (Or.inl (by omega))]; exact m1
    · rw [sf_uf, if_neg (by omega), hS.2.2.2 _ _ (Or.inl (by omega))]; exact m2
    · rw [sf_uf, if_neg (by omega), hS.2.2.2 _ _ (Or.inl (by omega))]; exact m3
    · rw [sf_uf, if_neg (by omega), hS.2.2.2 _ _ (Or.inl (by omega))]; exact m4
    · rw [sf_uf, if_neg (by omega), hS.2.2.2 _ _ (Or.inl (by omega))]; exact m5 i hi
    · rw [sf_uf, if_pos ⟨rfl, rfl⟩]
    · rw [sf_uf, if_neg (by omega)]; exact hr i hi
  · rw [if_neg e]
    have hl := o1.2.2.2.2.2.2
    refine ⟨?_, ?_, ?_, ?_, fun i hi => ?_, ?_, fun i hi => ?_, o1⟩
    · rw [sf_uf, if_neg (by omega), hS.2.2.2 _ _ (Or.inl (by omega))]; exact m1
    · rw [sf_uf, if_neg (by omega), hS.2.2.2 _ _ (Or.inl (by omega))]; exact m2
    · rw [sf_uf, if_neg (by omega), hS.2.2.2 _ _ (Or.inl (by omega))]; exact m3
    · rw [sf_uf, if_neg (by omega), hS.2.2.2 _ _ (Or.inl (by omega))]; exact m4
    · rw [sf_uf, if_neg (by omega), hS.2.2.2 _ _ (Or.inl (by omega))]; exact m5 i hi
    · rw [sf_uf, if_neg (by omega), hS.2.2.2 _ _ (Or.inl (by omega))]; exact m6
    · rw [sf_uf, if_neg (by omega), hS.2.2.2 _ _ (Or.inr (by omega))]; exact m7 i hi
theorem asc_ins : ∀ {xs : List Int32} {v : Int32}, asc xs → v ∉ xs → asc (xs.insertIdx (insP xs v) v) := by
  intro xs
  induction xs with
  | nil => intro v _ _; exact List.pairwise_singleton _ _
  | cons a t ih =>
    intro v ha hv
    obtain ⟨h1, h2⟩ := List.pairwise_cons.mp ha
    by_cases h : a < v
    · have e : insP (a :: t) v = insP t v + 1 := by simp [insP, h]
      rw [e, List.insertIdx_succ_cons]
      refine List.pairwise_cons.mpr ⟨fun x hx => ?_, ih h2 (fun z => hv (List.mem_cons_of_mem _ z))⟩
      rcases (List.mem_insertIdx (insP_le t v)).mp hx with e2 | e2
      · rw [e2]; exact h
      · exact h1 x e2
    · have e : insP (a :: t) v = 0 := by simp [insP, h]
      rw [e, List.insertIdx_zero]
      have hav : v < a := by
        refine Int32.lt_of_le_of_ne (Int32.not_lt.mp h) (fun z => hv (by rw [z]; exact List.mem_cons_self))
      refine List.pairwise_cons.mpr ⟨fun x hx => ?_, ha⟩
      rcases List.mem_cons.mp hx with e2 | e2
      · rw [e2]; exact hav
      · exact Int32.lt_trans hav (h1 x e2)
theorem asc_del {xs : List Int32} {i : Nat} (h : asc xs) : asc (xs.eraseIdx i) := List.Pairwise.sublist (List.eraseIdx_sublist xs i) h
theorem sMay_ok {s : St} {c : Int32} (h : sMay s c = true) : (isD c = true ∨ isP c = true) ∧ c ≠ sMain s ∧ c ∉ sRow s c ∧ (sRow s c).length < (if isD c then 8 else 6) := by
  unfold sMay at h
  simp only [Bool.and_eq_true, Bool.or_eq_true, Bool.not_eq_true', decide_eq_false_iff_not, decide_eq_true_eq] at h
  exact ⟨h.1.1.1, h.1.1.2, h.1.2, h.2⟩
/-- there is room for it -/
def sFit (s : St) (c : Int32) : Prop := (isD c = true ∨ isP c = true) ∧ c ∉ sRow s c ∧ (sRow s c).length < (if isD c then 8 else 6)
theorem sFit.may {s : St} {c : Int32} (h : sMay s c = true) : sFit s c := by
  obtain ⟨h1, h2, h3, h4⟩ := sMay_ok h
  exact ⟨h1, h3, h4⟩
theorem stOk_put {s : St} {c : Int32} (ho : stOk s) (h : sFit s c) : stOk (sPut s c) := by
  obtain ⟨h1, h3, h4⟩ := h
  obtain ⟨o1, o2, o3, o4, o5, o6, o7⟩ := ho
  unfold sPut sSet
  unfold sRow at h3 h4 ⊢
  cases e : isD c with
  | true =>
    rw [e] at h3 h4
    simp only [if_true] at h3 h4 ⊢
    refine ⟨o1, asc_ins o2 h3, o3, fun x hx => ?_, o5, by rw [List.length_insertIdx_of_le_length (insP_le _ _)]; omega, o7⟩
    rcases (List.mem_insertIdx (insP_le _ _)).mp hx with e2 | e2
    · rw [e2]; exact e
    · exact o4 x e2
  | false =>
    rw [e] at h3 h4
    simp only [Bool.false_eq_true, if_false] at h3 h4 ⊢
    refine ⟨o1, o2, asc_ins o3 h3, o4, fun x hx => ?_, o6, by rw [List.length_insertIdx_of_le_length (insP_le _ _)]; omega⟩
    rcases (List.mem_insertIdx (insP_le _ _)).mp hx with e2 | e2
    · rw [e2]
      rcases h1 with h1 | h1
      · rw [e] at h1; cases h1
      · exact h1
    · exact o5 x e2
theorem stOk_del {s : St} {c : Int32} (ho : stOk s) : stOk (sDel s c) := by
  obtain ⟨o1, o2, o3, o4, o5, o6, o7⟩ := ho
  unfold sDel sSet sRow
  cases e : isD c with
  | true =>
    simp only [if_true]
    exact ⟨o1, asc_del o2, o3, fun x hx => o4 x (List.mem_of_mem_eraseIdx hx), o5, Nat.le_trans (List.eraseIdx_sublist _ _).length_le o6, o7⟩
  | false =>
    simp only [Bool.false_eq_true, if_false]
    exact ⟨o1, o2, asc_del o3, o4, fun x hx => o5 x (List.mem_of_mem_eraseIdx hx), o6, Nat.le_trans (List.eraseIdx_sublist _ _).length_le o7⟩
theorem tsp_adds {σ : TS} {ss : List St} {k : Nat} {c : Int32} {post : TS → Prop} (h : SR σ ss) (hk : k < ss.length) (hm : sFit ss[k] c) (hp : ∀ σ', SR σ' (ss.set k (sPut ss[k] c)) → SF σ σ' → post σ') : wp_adds post σ (nI k) c := by
  have hn := h.2.1
  have hc : (nI k).toNatClampNeg = k := nI_clamp (by omega)
  obtain ⟨m1, m2, m3, m4, m5, m6, m7, o⟩ := h.2.2 k hk
  have hpo := stOk_put o hm
  obtain ⟨o1, o2, o3, o4, o5, o6, o7⟩ := o
  have hv : vp_in (nI k) 24 := vp_inN (by omega) (by omega)
  obtain ⟨h1, h3, h4⟩ := hm
  unfold sRow at h3 h4
  unfold wp_adds
  rw [hc, nI_mul, nI_mul]
  refine ⟨fun hlt => ⟨hv, ?_⟩, fun hlt => ⟨hv, ?_⟩⟩
  · have e : isD c = true := by
      rcases h1 with h1 | h1
      · exact h1
      · exact absurd hlt (isP_nlt h1)
    rw [e] at h3 h4
    simp only [if_true] at h3 h4
    rw [m4]
    have es : sPut ss[k] c = (sMain ss[k], sAge ss[k], sDays ss[k], (sSecs ss[k]).insertIdx (insP (sSecs ss[k]) c) c, sProcs ss[k]) := by
      unfold sPut sSet sRow; rw [e]; rfl
    refine tsp_comes rfl (by decide) (by show 8 * k + _ < 192; omega) m5 o2 h3 (fun σ' hS hr => ⟨hv, hv, fun z3 hz => ?_⟩)
    rw [es] at hpo hp
    have h9 := SR.setD h hk hS (by omega) hr hpo
    have h8 := (hS.sf (by omega) (by omega)).put (a := 38) (i := k) (v := nI ((sSecs ss[k]).insertIdx (insP (sSecs ss[k]) c) c).length) (by omega) (by omega)
    rw [List.length_insertIdx_of_le_length (insP_le _ _)] at h9 h8
    rw [hS.2.2.2 _ _ (Or.inl (by omega)), m4, nI_add] at hz
    rw [hz]
    exact hp _ h9 h8
  · have e : isD c = false := by
      cases e : isD c with
      | false => rfl
      | true => exact absurd (isD_lt e) hlt
    rw [e] at h3 h4
    simp only [Bool.false_eq_true, if_false] at h3 h4
    rw [m6]
    have es : sPut ss[k] c = (sMain ss[k], sAge ss[k], sDays ss[k], sSecs ss[k], (sProcs ss[k]).insertIdx (insP (sProcs ss[k]) c) c) := by
      unfold sPut sSet sRow; rw [e]; rfl
    refine tsp_comes rfl (by decide) (by show 6 * k + _ < 144; omega) m7 o3 h3 (fun σ' hS hr => ⟨hv, hv, fun z3 hz => ?_⟩)
    rw [es] at hpo hp
    have h9 := SR.setP h hk hS (by omega) hr hpo
    have h8 := (hS.sf (by omega) (by omega)).put (a := 40) (i := k) (v := nI ((sProcs ss[k]).insertIdx (insP (sProcs ss[k]) c) c).length) (by omega) (by omega)
    rw [List.length_insertIdx_of_le_length (insP_le _ _)] at h9 h8
    rw [hS.2.2.2 _ _ (Or.inl (by omega)), m6, nI_add] at hz
    rw [hz]
    exact hp _ h9 h8
theorem tsp_takes {σ : TS} {ss : List St} {k : Nat} {c : Int32} {post : TS → Prop} (h : SR σ ss) (hk : k < ss.length) (hm : c ∈ sRow ss[k] c) (hp : ∀ σ', SR σ' (ss.set k (sDel ss[k] c)) → SF σ σ' → post σ') : wp_takes post σ (nI k) c := by
  have hn := h.2.1
  have hc : (nI k).toNatClampNeg = k := nI_clamp (by omega)
  obtain ⟨m1, m2, m3, m4, m5, m6, m7, o⟩ := h.2.2 k hk
  have hpo := stOk_del (c := c) o
  obtain ⟨o1, o2, o3, o4, o5, o6, o7⟩ := o
  have hv : vp_in (nI k) 24 := vp_inN (by omega) (by omega)
  unfold sRow at hm
  unfold wp_takes
  rw [hc, nI_mul, nI_mul]
  refine ⟨fun hlt => ⟨hv, ?_⟩, fun hlt => ⟨hv, ?_⟩⟩
  · have e : isD c = true := by
      cases e : isD c with
      | true => rfl
      | false =>
        rw [e] at hm
        simp only [Bool.false_eq_true, if_false] at hm
        exact absurd hlt (isP_nlt (o5 c hm))
    rw [e] at hm
    simp only [if_true] at hm
    rw [m4]
    have hi : (sSecs ss[k]).idxOf c < (sSecs ss[k]).length := List.idxOf_lt_length_iff.mpr hm
    have es : sDel ss[k] c = (sMain ss[k], sAge ss[k], sDays ss[k], (sSecs ss[k]).eraseIdx ((sSecs ss[k]).idxOf c), sProcs ss[k]) := by
      unfold sDel sSet sRow; rw [e]; rfl
    refine tsp_goes rfl (by decide) (by show 8 * k + _ ≤ 192; omega) m5 hm (fun σ' hS hr => ⟨hv, hv, fun z3 hz => ?_⟩)
    rw [es] at hpo hp
    have h9 := SR.setD h hk hS (by omega) hr hpo
    have h8 := (hS.sf (by omega) (by omega)).put (a := 38) (i := k) (v := nI ((sSecs ss[k]).eraseIdx ((sSecs ss[k]).idxOf c)).length) (by omega) (by omega)
    rw [List.length_eraseIdx_of_lt hi] at h9 h8
    rw [hS.2.2.2 _ _ (Or.inl (by omega)), m4, nI_sub (by omega)] at hz
    rw [hz]
    exact hp _ h9 h8
  · have e : isD c = false := by
      cases e : isD c with
      | false => rfl
      | true => exact absurd (isD_lt e) hlt
    rw [e] at hm
    simp only [Bool.false_eq_true, if_false] at hm
    rw [m6]
    have hi : (sProcs ss[k]).idxOf c < (sProcs ss[k]).length := List.idxOf_lt_length_iff.mpr hm
    have es : sDel ss[k] c = (sMain ss[k], sAge ss[k], sDays ss[k], sSecs ss[k], (sProcs ss[k]).eraseIdx ((sProcs ss[k]).idxOf c)) := by
      unfold sDel sSet sRow; rw [e]; rfl
    refine tsp_goes rfl (by decide) (by show 6 * k + _ ≤ 144; omega) m7 hm (fun σ' hS hr => ⟨hv, hv, fun z3 hz => ?_⟩)
    rw [es] at hpo hp
    have h9 := SR.setP h hk hS (by omega) hr hpo
    have h8 := (hS.sf (by omega) (by omega)).put (a := 40) (i := k) (v := nI ((sProcs ss[k]).eraseIdx ((sProcs ss[k]).idxOf c)).length) (by omega) (by omega)
    rw [List.length_eraseIdx_of_lt hi] at h9 h8
    rw [hS.2.2.2 _ _ (Or.inl (by omega)), m6, nI_sub (by omega)] at hz
    rw [hz]
    exact hp _ h9 h8
/-- put in and taken out again -/
theorem row_putdel {xs : List Int32} {v : Int32} (hv : v ∉ xs) : (xs.insertIdx (insP xs v) v).eraseIdx ((xs.insertIdx (insP xs v) v).idxOf v) = xs := by
  have hl := List.length_insertIdx_of_le_length (insP_le xs v) v
  have hle := insP_le xs v
  have : (xs.insertIdx (insP xs v) v).idxOf v = insP xs v := by
    refine idx_at (by omega) (fun j hj hjk => ?_) ?_
    · rw [List.getElem_insertIdx_of_lt hjk]
      exact fun e => hv (by rw [e]; exact List.getElem_mem _)
    · rw [List.getElem_insertIdx_self]
  rw [this, List.eraseIdx_insertIdx_self]
theorem insP_mem : ∀ {xs : List Int32} {v : Int32}, asc xs → v ∈ xs → insP (xs.eraseIdx (xs.idxOf v)) v = xs.idxOf v ∧ (xs.eraseIdx (xs.idxOf v)).insertIdx (xs.idxOf v) v = xs := by
  intro xs
  induction xs with
  | nil => intro v _ h; cases h
  | cons a t ih =>
    intro v ha hv
    obtain ⟨h1, h2⟩ := List.pairwise_cons.mp ha
    by_cases e : a = v
    · subst e
      have e0 : (a :: t).idxOf a = 0 := by simp
      rw [e0, List.eraseIdx_zero, List.tail_cons, List.insertIdx_zero]
      refine ⟨?_, rfl⟩
      cases t with
      | nil => rfl
      | cons b t2 =>
        have : ¬ b < a := fun z => Int32.lt_irrefl (Int32.lt_trans z (h1 b List.mem_cons_self))
        simp [insP, this]
    · have hv' : v ∈ t := by
        rcases List.mem_cons.mp hv with z | z
        · exact absurd z.symm e
        · exact z
      have e0 : (a :: t).idxOf v = t.idxOf v + 1 := by
        rw [List.idxOf_cons, beq_eq_false_iff_ne.mpr e]
        rfl
      obtain ⟨i1, i2⟩ := ih h2 hv'
      rw [e0, List.eraseIdx_cons_succ, List.insertIdx_succ_cons, i2]
      refine ⟨?_, rfl⟩
      have hav : a < v := h1 v hv'
      have : insP (a :: t.eraseIdx (t.idxOf v)) v = insP (t.eraseIdx (t.idxOf v)) v + 1 := by simp [insP, hav]
      rw [this, i1]
theorem sDel_sPut {s : St} {c : Int32} (h : c ∉ sRow s c) : sDel (sPut s c) c = s := by
  unfold sRow at h
  unfold sDel sPut sSet sRow
  cases e : isD c with
  | true =>
    rw [e] at h
    simp only [if_true] at h ⊢
    show (sMain s, sAge s, sDays s, _, sProcs s) = s
    rw [show sSecs (sMain s, sAge s, sDays s, (sSecs s).insertIdx (insP (sSecs s) c) c, sProcs s) = (sSecs s).insertIdx (insP (sSecs s) c) c from rfl, row_putdel h]
  | false =>
    rw [e] at h
    simp only [Bool.false_eq_true, if_false] at h ⊢
    show (sMain s, sAge s, sDays s, sSecs s, _) = s
    rw [show sProcs (sMain s, sAge s, sDays s, sSecs s, (sProcs s).insertIdx (insP (sProcs s) c) c) = (sProcs s).insertIdx (insP (sProcs s) c) c from rfl, row_putdel h]
theorem sPut_sDel {s : St} {c : Int32} (ho : stOk s) (h : c ∈ sRow s c) : sPut (sDel s c) c = s := by
  unfold sRow at h
  unfold sDel sPut sSet sRow
  cases e : isD c with
  | true =>
    rw [e] at h
    simp only [if_true] at h ⊢
    obtain ⟨i1, i2⟩ := insP_mem ho.2.1 h
    show (sMain s, sAge s, sDays s, _, sProcs s) = s
    rw [show sSecs (sMain s, sAge s, sDays s, (sSecs s).eraseIdx ((sSecs s).idxOf c), sProcs s) = (sSecs s).eraseIdx ((sSecs s).idxOf c) from rfl, i1, i2]
  | false =>
    rw [e] at h
    simp only [Bool.false_eq_true, if_false] at h ⊢
    obtain ⟨i1, i2⟩ := insP_mem ho.2.2.1 h
    show (sMain s, sAge s, sDays s, sSecs s, _) = s
    rw [show sProcs (sMain s, sAge s, sDays s, sSecs s, (sProcs s).eraseIdx ((sProcs s).idxOf c)) = (sProcs s).eraseIdx ((sProcs s).idxOf c) from rfl, i1, i2]
theorem sRow_put {s : St} {c : Int32} : c ∈ sRow (sPut s c) c := by
  unfold sRow sPut sSet sRow
  cases e : isD c with
  | true => simp only [if_true]; exact (List.mem_insertIdx (insP_le _ _)).mpr (Or.inl rfl)
  | false => simp only [Bool.false_eq_true, if_false]; exact (List.mem_insertIdx (insP_le _ _)).mpr (Or.inl rfl)
theorem asc_nd {xs : List Int32} {v : Int32} (h : asc xs) (hv : v ∈ xs) : v ∉ xs.eraseIdx (xs.idxOf v) := by
  induction xs with
  | nil => cases hv
  | cons a t ih =>
    obtain ⟨h1, h2⟩ := List.pairwise_cons.mp h
    by_cases e : a = v
    · subst e
      have e0 : (a :: t).idxOf a = 0 := by simp
      rw [e0, List.eraseIdx_zero, List.tail_cons]
      exact fun z => Int32.lt_irrefl (h1 a z)
    · have hv' : v ∈ t := by
        rcases List.mem_cons.mp hv with z | z
        · exact absurd z.symm e
        · exact z
      have e0 : (a :: t).idxOf v = t.idxOf v + 1 := by
        rw [List.idxOf_cons, beq_eq_false_iff_ne.mpr e]
        rfl
      rw [e0, List.eraseIdx_cons_succ]
      intro z
      rcases List.mem_cons.mp z with z | z
      · exact e z.symm
      · exact ih h2 hv' z
theorem sFit.del {s : St} {c : Int32} (ho : stOk s) (h : c ∈ sRow s c) : sFit (sDel s c) c := by
  obtain ⟨o1, o2, o3, o4, o5, o6, o7⟩ := ho
  unfold sFit sDel sSet
  unfold sRow at h ⊢
  cases e : isD c with
  | true =>
    rw [e] at h
    simp only [if_true] at h ⊢
    have hi : (sSecs s).idxOf c < (sSecs s).length := List.idxOf_lt_length_iff.mpr h
    refine ⟨Or.inl trivial, asc_nd o2 h, ?_⟩
    show ((sSecs s).eraseIdx ((sSecs s).idxOf c)).length < 8
    rw [List.length_eraseIdx_of_lt hi]
    omega
  | false =>
    rw [e] at h
    simp only [Bool.false_eq_true, if_false] at h ⊢
    have hi : (sProcs s).idxOf c < (sProcs s).length := List.idxOf_lt_length_iff.mpr h
    refine ⟨Or.inr (o5 c h), asc_nd o3 h, ?_⟩
    show ((sProcs s).eraseIdx ((sProcs s).idxOf c)).length < 6
    rw [List.length_eraseIdx_of_lt hi]
    omega
