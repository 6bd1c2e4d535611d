/-! The parser in plain words: what it gives is an edition (lines) -/
set_option maxRecDepth 100000
def LIe (E : Ed) : Prop := ∃ ct : Nat → Nat, cOk2 (eCn E) ∧
  (∀ (n : Nat) (x : Nd), (eNd E)[n]? = some x → x.2.2.2.2 < (eCh E).length ∧ (x.1 < 0 → n < x.2.2.1 ∧ x.2.2.1 < (eNd E).length ∧ n < x.2.2.2.1 ∧ x.2.2.2.1 < (eNd E).length ∧ x.2.1 < (eCn E).length ∧ ct x.2.1 = x.2.2.2.2 ∧ (∀ y : Nd, (eNd E)[x.2.2.1]? = some y → y.2.2.2.2 = x.2.2.2.2) ∧ (∀ y : Nd, (eNd E)[x.2.2.2.1]? = some y → y.2.2.2.2 = x.2.2.2.2)) ∧ (¬ x.1 < 0 → ∃ k, k < (eCl E).length ∧ x.1 = nI k)) ∧
  (∀ (i : Nat) (k : Cn), (eCn E)[i]? = some k → (k.1 ≤ 1 → ct (ix k.2.1) = ct i ∧ ct (ix k.2.2.1) = ct i) ∧ (k.1 = 2 → ct (ix k.2.1) = ct i)) ∧
  (∀ i, i < (eCn E).length → (∃ (n : Nat) (x : Nd), (eNd E)[n]? = some x ∧ x.1 < 0 ∧ x.2.1 = i) ∨ ∃ (j : Nat) (k : Cn), (eCn E)[j]? = some k ∧ i < j ∧ chd k i) ∧
  (∀ (i j : Nat) (k l : Cn), (eCn E)[i]? = some k → (eCn E)[j]? = some l → ct i = ct j → 6 ≤ k.1 → 6 ≤ l.1 → k.2.2.2 = l.2.2.2 → k.1 = l.1 ∧ k.2.1 = l.2.1 ∧ k.2.2.1 = l.2.2.1) ∧
  (∀ i, i < (eCn E).length → ∃ c : Ch, (eCh E)[ct i]? = some c ∧ 0 ≤ c.2.2) ∧
  (∀ (m : Nat) (c : Ch), (eCh E)[m]? = some c → c.2.2 = -1 ∨ ∃ r, c.2.2 = nI r ∧ r < (eNd E).length ∧ ∀ x : Nd, (eNd E)[r]? = some x → x.2.2.2.2 = m) ∧
  clOk E ∧ (eCl E).length ≤ 16 ∧ (eNd E).length ≤ 40
theorem LIe.done {E : Ed} (h : LIe E) (ha : ∀ c ∈ eCh E, 0 ≤ c.2.2) : EdOk E ∧ ∃ ct, EdCt E ct := by
  obtain ⟨ct, h1, h2, h3, h4, h5, h6, h7, h8, h9, h10⟩ := h
  have h7' : ∀ (m : Nat) (c : Ch), (eCh E)[m]? = some c → ∃ r, c.2.2 = nI r ∧ r < (eNd E).length ∧ ∀ x : Nd, (eNd E)[r]? = some x → x.2.2.2.2 = m := by
    intro m c hc
    rcases h7 m c hc with z | z
    · have := ha c (List.mem_of_getElem? hc)
      rw [z] at this
      exact absurd this (by decide)
    · exact z
  refine ⟨⟨h1, fun n x hx => ?_, fun c hc => ?_, h8⟩, ct, fun n x hx hn => ?_, h3, h4, h5, fun c hc x hx => ?_⟩
  · obtain ⟨a1, a2, a3⟩ := h2 n x hx
    refine ⟨fun z => ?_, a3, a1⟩
    obtain ⟨b1, b2, b3, b4, b5, _⟩ := a2 z
    exact ⟨b1, b2, b3, b4, b5⟩
  · obtain ⟨m, hm, e⟩ := List.mem_iff_getElem.mp hc
    obtain ⟨r, r1, r2, _⟩ := h7' m c (by rw [List.getElem?_eq_getElem hm, e])
    exact ⟨r, r1, r2⟩
  · obtain ⟨a1, a2, a3⟩ := h2 n x hx
    obtain ⟨b1, b2, b3, b4, b5, b6, b7, b8⟩ := a2 hn
    exact ⟨b6, b7, b8⟩
  · obtain ⟨r, r1, r2, r3⟩ := h7' c _ (List.getElem?_eq_getElem hc)
    rw [r1, show ix (nI r) = r from nI_clamp (by omega)] at hx
    exact r3 x hx
theorem LIe.e0 : LIe E0 := ⟨fun _ => 0, fun i k h => (by cases h), fun n x h => (by cases h), fun i k h => (by cases h), fun i h => absurd h (Nat.not_lt_zero _), fun i j k l h => (by cases h), fun i h => absurd h (Nat.not_lt_zero _), fun m c h => (by cases h), fun c h => (by cases h), Nat.zero_le _, Nat.zero_le _⟩
theorem LIe.addCh {E : Ed} {w : List Nat} {sps : List Sp} (h : LIe E) : LIe (uCh E (eCh E ++ [(w, sps, -1)])) := by
  obtain ⟨ct, h1, h2, h3, h4, h5, h6, h7, h8, h9, h10⟩ := h
  refine ⟨ct, h1, fun n x hx => ?_, h3, h4, h5, fun i hi => ?_, fun m c hc => ?_, h8, h9, h10⟩
  · obtain ⟨a1, a2⟩ := h2 n x hx
    refine ⟨?_, a2⟩
    show _ < (eCh E ++ [_]).length
    rw [List.length_append]
    omega
  · obtain ⟨c, c1, c2⟩ := h6 i hi
    exact ⟨c, pre_row ⟨_, rfl⟩ c1, c2⟩
  · have hc' : (eCh E ++ [(w, sps, -1)])[m]? = some c := hc
    rcases Nat.lt_or_ge m (eCh E).length with z | z
    · rw [List.getElem?_append_left z] at hc'
      exact h7 m c hc'
    · rw [List.getElem?_append_right z] at hc'
      rcases Nat.lt_or_ge 0 (m - (eCh E).length) with y | y
      · rw [List.getElem?_eq_none (by rw [List.length_singleton]; omega)] at hc'; cases hc'
      · have e : m - (eCh E).length = 0 := by omega
        rw [e] at hc'
        rw [← Option.some.inj hc']
        exact Or.inl rfl
theorem pTree_li {bs : List Nat} {s q : PS} (h9b : bs.length ≤ 900) (hb : tkB bs s.1) (hcn : 3 * cnL s ≤ pAt s) (hI : LIe (pE s)) (h : pTree bs s = .ok q) : LIe (pE q) := by
  obtain ⟨hn, c, r, hc, h0, hr, rfl⟩ := pTree_ok h
  obtain ⟨ct, h1, h2, h3, h4, h5, h6, h7, h8, h9, h10⟩ := hI
  generalize hi : chI (pE s) (pW (nxt bs s)) = i at *
  have n1 := nxt_b hb
  have n2 := nxt_b n1.1
  have hat1 : pAt s ≤ pP s := hb.1
  have hat2 : pAt (nxt bs s) ≤ pP (nxt bs s) := n1.1.1
  have hch : i < (eCh (pE s)).length := (List.getElem?_eq_some_iff.mp hc).1
  have I0 : Inv (cnL s) ((nxt bs (nxt bs s)).1, pE s, []) := by
    have no : ∀ (j : Nat) (k : Cn), cnL s ≤ j → (eCn (pE s))[j]? = some k → False := by
      intro j k hj hk
      rw [List.getElem?_eq_none hj] at hk
      cases hk
    exact ⟨h1, ⟨fun w => Nat.zero_le _, fun w j k hk => (by cases hk), fun j k hj hk _ => (no j k hj hk).elim⟩, fun j k hj hk => (no j k hj hk).elim⟩
  obtain ⟨k1, k2, k3, k4, k5, k6, k7, k8⟩ := pN_ng 9 ((nxt bs (nxt bs s)).1, pE s, []) r n2.1 h10 hr
  obtain ⟨⟨v1, v2, v3, v4, v5, v6, v7, v8⟩, v9⟩ := pN_nv (b := cnL s) h9b 9 ((nxt bs (nxt bs s)).1, pE s, []) r n2.1 h10 h9 (by show 3 * cnL s ≤ pAt (nxt bs (nxt bs s)); omega) (Nat.le_refl _) I0 h8 hr
  have q1 : ndL s = (eNd (pE s)).length := rfl
  have q2 : ndL r.2 = (eNd (pE r.2)).length := rfl
  have q3 : cnL s = (eCn (pE s)).length := rfl
  have q4 : cnL r.2 = (eCn (pE r.2)).length := rfl
  have k4' : r.1 = ndL s := k4
  have k2' : ndL s < ndL r.2 := k2
  have k5' : ∀ j, j < ndL s → (eNd (pE r.2))[j]? = (eNd (pE s))[j]? := k5
  have k8' : eCh (pE r.2) = eCh (pE s) := k8
  have v3' : ∃ l, eCn (pE r.2) = eCn (pE s) ++ l := v3
  have v2' : ∃ l, eCl (pE r.2) = eCl (pE s) ++ l := v2
  have lcn := pre_len v3'
  have lcl := pre_len v2'
  have cold : ∀ j, j < cnL s → (eCn (pE r.2))[j]? = (eCn (pE s))[j]? := by
    intro j hj
    have hj' : j < (eCn (pE s)).length := hj
    rw [List.getElem?_eq_getElem hj']
    exact pre_row v3' (List.getElem?_eq_getElem hj')
  have nct : ∀ j, j < cnL s → ct j ≠ i := by
    intro j hj e
    obtain ⟨c', c1, c2⟩ := h6 j hj
    rw [e, hc] at c1
    rw [← Option.some.inj c1] at c2
    exact h0 c2
  have hset : ∀ m, m ≠ i → ((eCh (pE r.2)).set i (c.1, c.2.1, nI r.1))[m]? = (eCh (pE s))[m]? := by
    intro m hm
    rw [List.getElem?_set_ne (fun z => hm z.symm), k8']
  have hseti : ((eCh (pE r.2)).set i (c.1, c.2.1, nI r.1))[i]? = some (c.1, c.2.1, nI r.1) := List.getElem?_set_self (by rw [k8']; exact hch)
  obtain ⟨ct', hlo, hhi⟩ : ∃ ct' : Nat → Nat, (∀ j, j < cnL s → ct' j = ct j) ∧ ∀ j, cnL s ≤ j → ct' j = i := ⟨fun j => if j < cnL s then ct j else i, fun j hj => if_pos hj, fun j hj => if_neg (Nat.not_lt.mpr hj)⟩
  refine ⟨ct', v1.1, fun n x hx => ?_, fun j k hk => ?_, fun j hj => ?_, fun j j' k l hk hl hct hk6 hl6 hu => ?_, fun j hj => ?_, fun m c' hc' => ?_, v6, v9, k3⟩
  · have hx' : (eNd (pE r.2))[n]? = some x := hx
    have hlen : (eCh (pE (sEd r.2 (uCh (pE r.2) ((eCh (pE r.2)).set i (c.1, c.2.1, nI r.1)))))).length = (eCh (pE s)).length := by
      show ((eCh (pE r.2)).set i _).length = _
      rw [List.length_set, k8']
    rw [hlen]
    rcases Nat.lt_or_ge n (ndL s) with z | z
    · rw [k5' n z] at hx'
      obtain ⟨a1, a2, a3⟩ := h2 n x hx'
      refine ⟨a1, fun w => ?_, fun w => ?_⟩
      · obtain ⟨b1, b2, b3, b4, b5, b6, b7, b8⟩ := a2 w
        refine ⟨b1, by show _ < ndL r.2; omega, b3, by show _ < ndL r.2; omega, by show _ < (eCn (pE r.2)).length; omega, ?_, fun y hy => ?_, fun y hy => ?_⟩
        · rw [hlo _ b5]; exact b6
        · exact b7 y ((k5' _ b2).symm.trans hy)
        · exact b8 y ((k5' _ b4).symm.trans hy)
      · obtain ⟨k, c1, c2⟩ := a3 w
        exact ⟨k, by show k < (eCl (pE r.2)).length; omega, c2⟩
    · obtain ⟨a1, a2, a3⟩ := v4 n x z hx'
      refine ⟨by rw [a1]; exact hch, fun w => ?_, a3⟩
      obtain ⟨b1, b2, b3, b4, b5, b6⟩ := a2 w
      refine ⟨b1, b2, b3, b4, b5, ?_, fun y hy => ?_, fun y hy => ?_⟩
      · rw [hhi _ b6, a1]
      · rw [a1]; exact (v4 _ y (by show ndL s ≤ _; omega) hy).1
      · rw [a1]; exact (v4 _ y (by show ndL s ≤ _; omega) hy).1
  · have hk' : (eCn (pE r.2))[j]? = some k := hk
    obtain ⟨o1, o2, o3, _⟩ := v1.1 j k hk'
    rcases Nat.lt_or_ge j (cnL s) with z | z
    · have hk2 := hk'
      rw [cold j z] at hk2
      obtain ⟨a1, a2⟩ := h3 j k hk2
      rw [hlo j z]
      have hjl : j < 1000 := by
        have : pAt s ≤ bs.length := Nat.le_trans hb.1 hb.2.1
        omega
      refine ⟨fun w => ?_, fun w => ?_⟩
      · obtain ⟨x, y, e1, e2, e3, e4⟩ := o2 w
        have ea : ix k.2.1 < cnL s := by rw [e1, show ix (nI x) = x from nI_clamp (by omega)]; omega
        have eb : ix k.2.2.1 < cnL s := by rw [e3, show ix (nI y) = y from nI_clamp (by omega)]; omega
        rw [hlo _ ea, hlo _ eb]
        exact a1 w
      · obtain ⟨x, e1, e2⟩ := o3 w
        have ea : ix k.2.1 < cnL s := by rw [e1, show ix (nI x) = x from nI_clamp (by omega)]; omega
        rw [hlo _ ea]
        exact a2 w
    · obtain ⟨a1, a2⟩ := v1.2.2 j k z hk'
      rw [hhi j z]
      refine ⟨fun w => ?_, fun w => ?_⟩
      · rw [hhi _ (a1 w).1, hhi _ (a1 w).2]
        exact ⟨rfl, rfl⟩
      · rw [hhi _ (a2 w)]
  · have hj' : j < cnL r.2 := hj
    rcases Nat.lt_or_ge j (cnL s) with z | z
    · rcases h4 j z with ⟨n, x, a1, a2, a3⟩ | ⟨j', k, a1, a2, a3⟩
      · exact Or.inl ⟨n, x, (k5' n (List.getElem?_eq_some_iff.mp a1).1).trans a1, a2, a3⟩
      · exact Or.inr ⟨j', k, pre_row v3' a1, a2, a3⟩
    · rcases v5 j z hj' with ⟨n, x, a0, a1, a2, a3⟩ | ⟨j', k, a1, a2, a3⟩
      · exact Or.inl ⟨n, x, a1, a2, a3⟩
      · exact Or.inr ⟨j', k, a1, a2, a3⟩
  · have hk' : (eCn (pE r.2))[j]? = some k := hk
    have hl' : (eCn (pE r.2))[j']? = some l := hl
    have hct' := hct
    rcases Nat.lt_or_ge j (cnL s) with z | z
    · rcases Nat.lt_or_ge j' (cnL s) with z' | z'
      · rw [hlo _ z, hlo _ z'] at hct'
        rw [cold j z] at hk'
        rw [cold j' z'] at hl'
        exact h5 j j' k l hk' hl' hct' hk6 hl6 hu
      · rw [hlo _ z, hhi _ z'] at hct'
        exact absurd hct' (nct j z)
    · rcases Nat.lt_or_ge j' (cnL s) with z' | z'
      · rw [hhi _ z, hlo _ z'] at hct'
        exact absurd hct'.symm (nct j' z')
      · have e1 := v1.2.1.2.2 j k z hk' (by omega)
        have e2 := v1.2.1.2.2 j' l z' hl' (by omega)
        rw [atF_hi hk6] at e1
        rw [atF_hi hl6, ← hu, e1] at e2
        have := Option.some.inj e2
        rw [this]
        exact ⟨rfl, rfl, rfl⟩
  · have hj' : j < cnL r.2 := hj
    rcases Nat.lt_or_ge j (cnL s) with z | z
    · obtain ⟨c', c1, c2⟩ := h6 j z
      refine ⟨c', ?_, c2⟩
      show ((eCh (pE r.2)).set i _)[ct' j]? = _
      rw [hlo _ z, hset _ (nct j z)]
      exact c1
    · refine ⟨(c.1, c.2.1, nI r.1), ?_, nI_pos' (by omega)⟩
      show ((eCh (pE r.2)).set i _)[ct' j]? = _
      rw [hhi _ z]
      exact hseti
  · have hc2 : ((eCh (pE r.2)).set i (c.1, c.2.1, nI r.1))[m]? = some c' := hc'
    by_cases e : m = i
    · subst e
      rw [hseti] at hc2
      rw [← Option.some.inj hc2]
      exact Or.inr ⟨r.1, rfl, by show r.1 < ndL r.2; omega, fun x hx => (v4 r.1 x (by show ndL s ≤ r.1; omega) hx).1⟩
    · rw [hset m e] at hc2
      rcases h7 m c' hc2 with z | ⟨r', r1, r2, r3⟩
      · exact Or.inl z
      · exact Or.inr ⟨r', r1, by show r' < ndL r.2; omega, fun x hx => r3 x ((k5' r' r2).symm.trans hx)⟩
theorem pKind_li {bs : List Nat} {s q : PS} (h9b : bs.length ≤ 900) (hb : tkB bs s.1) (hcn : 3 * cnL s ≤ pAt s) (hI : LIe (pE s)) (h : pKind bs s = .ok q) : LIe (pE q) := by
  have n1 := nxt_b hb
  have n2 := nxt_b n1.1
  unfold pKind at h
  split at h
  · unfold pChapter at h
    split at h
    · cases h
    · split at h
      · cases h
      · split at h
        · cases h
        · obtain ⟨r, h1, h2⟩ := bnd_ok h
          cases h2
          have a3 := (pSpans_pg 4 [] _ r n2.1 h1).2.2
          have eE : pE r.2 = pE s := e2E a3
          show LIe (uCh (pE r.2) (eCh (pE r.2) ++ [(pW (nxt bs s), r.1, -1)]))
          rw [eE]
          exact hI.addCh
  · split at h
    · unfold pRank at h
      split at h
      · cases h
      · obtain ⟨r, h1, h2⟩ := bnd_ok h
        obtain ⟨v, h3, h4⟩ := bnd_ok h2
        cases h4
        have eE : pE v.2 = pE s := (e2E (pNum_ok (v := v.1) (s' := v.2) h3).1).trans (e2E (s := s) (q := r.2) (pSpan_ok (sp := r.1) (s' := r.2) h1).1)
        show LIe (uRk (pE v.2) _)
        rw [eE]
        exact hI
    · split at h
      · unfold pPartner at h
        split at h
        · cases h
        · obtain ⟨r, h1, h2⟩ := bnd_ok h
          obtain ⟨v, h3, h4⟩ := bnd_ok h2
          have eE : pE v.2 = pE s := (e2E (pNum_ok (v := v.1) (s' := v.2) h3).1).trans (e2E (s := s) (q := r.2) (pSpan_ok (sp := r.1) (s' := r.2) h1).1)
          split at h4
          · obtain ⟨u, h5, h6⟩ := bnd_ok h4
            cases h6
            have b1 := (pNum_pg (v := v.1) (s' := v.2) (pSpan_pg (sp := r.1) (s' := r.2) n1.1 h1).1 h3).1
            have a3 := (pSpans_pg 4 [] _ u (nxt_b b1).1 h5).2.2
            have eE2 : pE u.2 = pE s := (e2E (s := v.2) (q := u.2) a3).trans eE
            show LIe (uPt (pE u.2) _)
            rw [eE2]
            exact hI
          · cases h4
            show LIe (uPt (pE v.2) _)
            rw [eE]
            exact hI
      · split at h
        · exact pTree_li h9b hb hcn hI h
        · cases h
theorem pLines_li {bs : List Nat} (h9b : bs.length ≤ 900) : ∀ (f n : Nat) (s : PS) (m : Nat) (q : PS), tkB bs s.1 → 3 * cnL s ≤ pAt s → ndL s ≤ 40 → LIe (pE s) → pLines bs f n s = (m, .ok q) → LIe (pE q) := by
  intro f
  induction f with
  | zero => intro n s m q _ _ _ _ h; cases h
  | succ f ih =>
    intro n s m q hb hcn h40 hI h
    rw [pLines_step] at h
    by_cases hK : pK s = 0
    · rw [if_pos hK] at h
      cases h
      exact hI
    · rw [if_neg hK] at h
      cases hL : pLine bs s with
      | error e => rw [hL] at h; cases h
      | ok v =>
        rw [hL] at h
        obtain ⟨u, h1, h2⟩ := bnd_ok (show bnd (pKind bs s) (fun q => pMustS bs 59 q) = .ok v from hL)
        obtain ⟨l1, l2, l3, l4⟩ := pKind_lg hb h40 hK h1
        obtain ⟨m1, m2, m3, _, _⟩ := pMustS_ok l1 h2
        have eE : pE v = pE u := e2E m3
        have ec : cnL v = cnL u := by show (eCn (pE v)).length = _; rw [eE]
        have en : ndL v = ndL u := by show (eNd (pE v)).length = _; rw [eE]
        have h40' := l4 h40
        exact ih (n + 1) v m q m1 (by omega) (by omega) (by rw [eE]; exact pKind_li h9b hb hcn hI h1) h
/-- what the text gives is an edition -/
theorem pWhole_ok {bs : List Nat} {n : Nat} {E : Ed} (h9b : bs.length ≤ 900) (h : pWhole bs = (n, .ok E)) : EdOk E ∧ ∃ ct, EdCt E ct := by
  unfold pWhole at h
  cases hT : pLines bs (bs.length + 1) 0 (lex bs 0, E0, []) with
  | mk m r =>
    cases r with
    | error e => rw [hT] at h; cases h
    | ok s =>
      rw [hT] at h
      have hI := pLines_li h9b _ _ _ _ _ (lex_b (Nat.zero_le _)).1 (Nat.zero_le _) (Nat.zero_le _) LIe.e0 hT
      by_cases ha : (eCh (pE s)).all (fun c => decide (0 ≤ c.2.2)) = true
      · have h' : (if (eCh (pE s)).all (fun c => decide (0 ≤ c.2.2)) = true then (m, Except.ok (pE s)) else (m, er s 5)) = (n, Except.ok E) := h
        rw [if_pos ha] at h'
        cases h'
        exact hI.done (fun c hc => of_decide_eq_true (List.all_eq_true.mp ha c hc))
      · have h' : (if (eCh (pE s)).all (fun c => decide (0 ≤ c.2.2)) = true then (m, Except.ok (pE s)) else (m, er s 5)) = (n, Except.ok E) := h
        rw [if_neg ha] at h'
        cases h'
/-- the model's edition() answers as the plain words say -/
theorem tc_edition2 {σ : TS} {M : MS} {post : Int32 → TS → Prop} (h : TR σ M) (hp : ∀ σ', TR σ' (aEdition M).2 → post (aEdition M).1 σ') : wp_edition post σ := tc_edition h (fun h9 _ _ e => pWhole_ok h9 e) hp
/-- each edition of M is one whose conditions know their tree -/
def MOk (M : MS) : Prop := (∃ ct, EdCt (mE M) ct) ∧ ∀ K, mK M = some K → ∃ ct, EdCt K ct
theorem MOk.edition {M : MS} (h : MOk M) : MOk (aEdition M).2 := by
  rcases Nat.lt_or_ge 900 (mT M).length with z | z
  · unfold aEdition
    rw [if_pos z]
    exact h
  · cases hW : pWhole (mT M) with
    | mk n r =>
      cases r with
      | error f => rw [aEd_er z hW]; exact h
      | ok E => rw [aEd_ok z hW]; exact ⟨(pWhole_ok z hW).2, h.2⟩
