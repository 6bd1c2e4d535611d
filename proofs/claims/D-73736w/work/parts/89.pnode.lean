/-! The parser in plain words: what conditions and nodes keep -/
set_option maxRecDepth 100000
def CE (s q : PS) : Prop := ∃ l, pE q = uCn (pE s) (eCn (pE s) ++ l)
theorem CE.eq {s q : PS} (h : pE q = pE s) : CE s q := ⟨[], by rw [h, List.append_nil]; rfl⟩
theorem CE.tr {s q r : PS} (h : CE s q) (k : CE q r) : CE s r := by
  obtain ⟨l, h⟩ := h
  obtain ⟨m, k⟩ := k
  refine ⟨l ++ m, ?_⟩
  rw [k, h]
  show uCn (pE s) ((eCn (pE s) ++ l) ++ m) = _
  rw [List.append_assoc]
theorem CE.nw (s : PS) (k : Cn) : CE s (nwC s k).2 := ⟨[k], rfl⟩
theorem CE.nd {s q : PS} (h : CE s q) : eNd (pE q) = eNd (pE s) ∧ eCh (pE q) = eCh (pE s) ∧ eCl (pE q) = eCl (pE s) ∧ eRk (pE q) = eRk (pE s) ∧ ePt (pE q) = ePt (pE s) := by
  obtain ⟨l, h⟩ := h
  rw [h]
  exact ⟨rfl, rfl, rfl, rfl, rfl⟩
theorem pAtom_ce {pl w : Nat} {a b : Int32} {s : PS} {q : Nat × PS} (h : pAtom pl w a b s = .ok q) : CE s q.2 := by
  unfold pAtom at h
  split at h
  · cases h
  · cases h
    exact CE.nw _ _
theorem e2E {s q : PS} (h : q.2 = s.2) : pE q = pE s := by show q.2.1 = s.2.1; rw [h]
theorem pSpanC_ce {bs : List Nat} {w : Nat} {s : PS} {q : Nat × PS} (h : pSpanC bs w s = .ok q) : CE s q.2 := by
  obtain ⟨r, h1, h2⟩ := bnd_ok h
  exact (CE.eq (e2E (pSpan_ok (sp := r.1) (s' := r.2) h1).1)).tr (pAtom_ce h2)
theorem pComp_ce {bs : List Nat} {w : Nat} {s : PS} {q : Nat × PS} (h : pComp bs w s = .ok q) : CE s q.2 := by
  unfold pComp at h
  split at h
  · cases h
  · obtain ⟨r, h1, h2⟩ := bnd_ok h
    exact (CE.eq (e2E (pNum_ok (v := r.1) (s' := r.2) h1).1)).tr (pAtom_ce h2)
theorem pChain_ce {bs : List Nat} {w op : Nat} {r : PS → Except Nat (Nat × PS)} (hr : ∀ s q, r s = .ok q → CE s q.2) : ∀ (f c : Nat) (s : PS) (q : Nat × PS), pChain bs w op r f c s = .ok q → CE s q.2 := by
  intro f
  induction f with
  | zero => intro c s q h; cases h
  | succ f ih =>
    intro c s q h
    rw [pChain_step] at h
    split at h
    · obtain ⟨v, h1, h2⟩ := bnd_ok h
      have e0 : CE s (nxt bs s) := CE.eq rfl
      exact (e0.tr (hr _ _ h1)).tr ((CE.nw _ _).tr (ih _ _ _ h2))
    · cases h
      exact CE.eq rfl
theorem pJoin_ce {bs : List Nat} {w op : Nat} {r : PS → Except Nat (Nat × PS)} (hr : ∀ s q, r s = .ok q → CE s q.2) : ∀ s q, pJoin bs w op r s = .ok q → CE s q.2 := by
  intro s q h
  obtain ⟨v, h1, h2⟩ := bnd_ok h
  exact (hr s v h1).tr (pChain_ce hr _ _ _ q h2)
theorem pCondB_ce {bs : List Nat} {r : PS → Except Nat (Nat × PS)} (hr : ∀ s q, r s = .ok q → CE s q.2) : ∀ s q, pCondB bs r s = .ok q → CE s q.2 := pJoin_ce (pJoin_ce hr)
theorem pMustS_2 {bs : List Nat} {s q : PS} {c : Nat} (e : pMustS bs c s = .ok q) : q.2 = s.2 := by
  unfold pMustS at e
  split at e
  · cases e; rfl
  · cases e
theorem pMustW_2 {bs : List Nat} {s q : PS} {c : Nat} (e : pMustW bs c s = .ok q) : q.2 = s.2 := by
  unfold pMustW at e
  split at e
  · cases e; rfl
  · cases e
theorem pOneB_ce {bs : List Nat} {rc : Option (PS → Except Nat (Nat × PS))} (hr : ∀ r, rc = some r → ∀ s q, r s = .ok q → CE s q.2) : ∀ s q, pOneB bs rc s = .ok q → CE s q.2 := by
  intro s q h
  have e0 : CE s (nxt bs s) := CE.eq rfl
  unfold pOneB at h
  split at h
  · cases rc with
    | none => cases h
    | some r =>
      obtain ⟨v, h1, h2⟩ := bnd_ok h
      cases h2
      exact (e0.tr (hr r rfl _ _ h1)).tr (CE.nw _ _)
  · split at h
    · cases rc with
      | none => cases h
      | some r =>
        obtain ⟨v, h1, h2, h3⟩ := pClose_ok h
        exact (e0.tr (pCondB_ce (hr r rfl) _ _ h1)).tr (CE.eq (e2E (pMustS_2 h2)))
    · split at h
      · exact pSpanC_ce h
      · split at h
        · exact pSpanC_ce h
        · split at h
          · exact pSpanC_ce h
          · split at h
            · exact pComp_ce h
            · split at h
              · exact pComp_ce h
              · split at h
                · exact pComp_ce h
                · split at h
                  · exact pComp_ce h
                  · cases h
theorem pO_ce {bs : List Nat} : ∀ (d : Nat) (s : PS) (q : Nat × PS), pO bs d s = .ok q → CE s q.2 := by
  intro d
  induction d with
  | zero => exact pOneB_ce (fun r hr => by cases hr)
  | succ d ih => exact pOneB_ce (fun r hr => by cases hr; exact ih)
abbrev ndL (s : PS) : Nat := (eNd (pE s)).length
/-- a node keeps the rows before it, and takes bytes -/
def NG (bs : List Nat) (s : PS) (q : Nat × PS) : Prop := tkB bs q.2.1 ∧ ndL s < ndL q.2 ∧ ndL q.2 ≤ 40 ∧ q.1 = ndL s ∧ (∀ i, i < ndL s → (eNd (pE q.2))[i]? = (eNd (pE s))[i]?) ∧ cnL s ≤ cnL q.2 ∧ pAt s + 3 * cnL q.2 + 1 ≤ pAt q.2 + 3 * cnL s ∧ eCh (pE q.2) = eCh (pE s)
theorem nameOk_k {s : PS} (h : nameOk s = true) : pK s = 2 ∧ pW s ∉ wdT := of_decide_eq_true h
theorem pLeaf_ok {bs : List Nat} {tc : Nat} {s : PS} {q : Nat × PS} (h : pLeaf bs tc s = .ok q) : ¬ ndL s = 40 ∧ nameOk (nxt bs s) = true ∧ ¬ clI (pE s) (pW (nxt bs s)) = 16 ∧ pK (nxt bs (nxt bs s)) = 3 ∧ (1 ≤ pNm (nxt bs (nxt bs s)) ∧ pNm (nxt bs (nxt bs s)) ≤ 999) ∧ (((eCl (pE s))[clI (pE s) (pW (nxt bs s))]?).map (fun x => x.2)).getD (nI (pNm (nxt bs (nxt bs s)))) = nI (pNm (nxt bs (nxt bs s))) ∧ q = (ndL s, sEd (nxt bs (nxt bs (nxt bs s))) (uCl (uNd (pE s) (eNd (pE s) ++ [(nI (clI (pE s) (pW (nxt bs s))), 0, 0, 0, tc)])) (if clI (pE s) (pW (nxt bs s)) = (eCl (pE s)).length then eCl (pE s) ++ [(pW (nxt bs s), nI (pNm (nxt bs (nxt bs s))))] else eCl (pE s)))) := by
  unfold pLeaf at h
  split at h
  · cases h
  · next a1 =>
    split at h
    · cases h
    · next a2 =>
      split at h
      · cases h
      · next a3 =>
        split at h
        · cases h
        · next a4 =>
          split at h
          · cases h
          · next a5 =>
            split at h
            · cases h
            · next a6 =>
              cases h
              exact ⟨a1, by simpa using a2, a3, Decidable.not_not.mp a4, Decidable.not_not.mp a5, Decidable.not_not.mp a6, rfl⟩
theorem pLeaf_ng {bs : List Nat} {tc : Nat} {s : PS} {q : Nat × PS} (hb : tkB bs s.1) (h40 : ndL s ≤ 40) (hw : isW s 4 = true) (h : pLeaf bs tc s = .ok q) : NG bs s q := by
  obtain ⟨a1, a2, a3, a4, a5, a6, rfl⟩ := pLeaf_ok h
  have n1 := nxt_b hb
  have n2 := nxt_b n1.1
  have n3 := nxt_b n2.1
  have e1 := isW_p hb hw
  have l4 : (wd 4).length = 5 := by decide
  have e2 := tk_p n1.1 (by rw [(nameOk_k a2).1]; omega)
  have e3 := tk_p n2.1 (by rw [a4]; omega)
  have el : (eNd (pE s) ++ [(nI (clI (pE s) (pW (nxt bs s))), 0, 0, 0, tc)]).length = ndL s + 1 := by rw [List.length_append]; rfl
  refine ⟨n3.1, ?_, ?_, rfl, fun i hi => ?_, Nat.le_refl _, ?_, rfl⟩
  · show ndL s < (eNd (pE s) ++ [(nI (clI (pE s) (pW (nxt bs s))), 0, 0, 0, tc)]).length
    omega
  · show (eNd (pE s) ++ [(nI (clI (pE s) (pW (nxt bs s))), 0, 0, 0, tc)]).length ≤ 40
    omega
  · show (eNd (pE s) ++ [_])[i]? = _
    exact List.getElem?_append_left hi
  · show pAt s + 3 * cnL s + 1 ≤ pAt (nxt bs (nxt bs (nxt bs s))) + 3 * cnL s
    omega
theorem pNodeB_ng {bs : List Nat} {tc : Nat} {rc : Option ((PS → Except Nat (Nat × PS)) × (PS → Except Nat (Nat × PS)))} (h1 : ∀ r, rc = some r → ∀ s q, tkB bs s.1 → r.1 s = .ok q → CG bs s q ∧ CE s q.2) (h2 : ∀ r, rc = some r → ∀ s q, tkB bs s.1 → ndL s ≤ 40 → r.2 s = .ok q → NG bs s q) : ∀ s q, tkB bs s.1 → ndL s ≤ 40 → pNodeB bs tc rc s = .ok q → NG bs s q := by
  intro s q hb h40 h
  have n1 := nxt_b hb
  unfold pNodeB at h
  split at h
  · next hS =>
    have e1 := isS_p hb hS
    cases rc with
    | none => cases h
    | some r =>
      obtain ⟨v, g1, g2, g3⟩ := pClose_ok h
      obtain ⟨k1, k2, k3, k4, k5, k6, k7, k8⟩ := h2 r rfl _ _ n1.1 h40 g1
      obtain ⟨m1, m2, m3, _, _⟩ := pMustS_ok k1 g2
      have eE : pE q.2 = pE v.2 := e2E m3
      have ec : cnL q.2 = cnL v.2 := by show (eCn (pE q.2)).length = _; rw [eE]
      have en : ndL q.2 = ndL v.2 := by show (eNd (pE q.2)).length = _; rw [eE]
      have e4 : cnL (nxt bs s) = cnL s := rfl
      have e5 : ndL (nxt bs s) = ndL s := rfl
      refine ⟨m1, by omega, by omega, by omega, fun i hi => ?_, by omega, by omega, ?_⟩
      · rw [eE]; exact k5 i hi
      · rw [eE]; exact k8
  · split at h
    · next hw => exact pLeaf_ng hb h40 hw h
    · split at h
      · cases h
      · next hw9 =>
        have hw : isW s 9 = true := by simpa using hw9
        split at h
        · cases h
        · next hn =>
          cases rc with
          | none => cases h
          | some r =>
            have e1 := isW_p hb hw
            have l9 : (wd 9).length = 2 := by decide
            obtain ⟨c, g1, g2⟩ := bnd_ok h
            obtain ⟨s2, g3, g4⟩ := bnd_ok g2
            obtain ⟨t, g5, g6⟩ := bnd_ok g4
            obtain ⟨s3, g7, g8⟩ := bnd_ok g6
            obtain ⟨e, g9, g10⟩ := bnd_ok g8
            cases g10
            have nb := nxt_b (s := sEd s (uNd (pE s) (eNd (pE s) ++ [(-1, 0, 0, 0, tc)]))) hb
            obtain ⟨⟨u1, u2, u3, u4⟩, u5⟩ := h1 r rfl _ _ nb.1 g1
            obtain ⟨v1, v2, v3, _, _⟩ := pMustW_ok u1 g3
            have el : ndL (nxt bs (sEd s (uNd (pE s) (eNd (pE s) ++ [(-1, 0, 0, 0, tc)])))) = ndL s + 1 := by
              show (eNd (pE s) ++ [_]).length = _
              rw [List.length_append]; rfl
            have hn' : ¬ ndL s = 40 := hn
            have d1 : eNd (pE s2) = eNd (pE s) ++ [(-1, 0, 0, 0, tc)] := by rw [e2E v3]; exact u5.nd.1
            have d2 : ndL s2 = ndL s + 1 := by show (eNd (pE s2)).length = _; rw [d1, List.length_append]; rfl
            obtain ⟨w1, w2, w3, w4, w5, w6, w7, w8⟩ := h2 r rfl _ _ v1 (by omega) g5
            obtain ⟨x1, x2, x3, _, _⟩ := pMustW_ok w1 g7
            have d3 : pE s3 = pE t.2 := e2E x3
            have d4 : ndL s3 = ndL t.2 := by show (eNd (pE s3)).length = _; rw [d3]
            obtain ⟨y1, y2, y3, y4, y5, y6, y7, y8⟩ := h2 r rfl _ _ x1 (by omega) g9
            have d5 : cnL s3 = cnL t.2 := by show (eCn (pE s3)).length = _; rw [d3]
            have d6 : cnL s2 = cnL c.2 := by show (eCn (pE s2)).length = _; rw [e2E v3]
            have d7 : cnL (nxt bs (sEd s (uNd (pE s) (eNd (pE s) ++ [(-1, 0, 0, 0, tc)])))) = cnL s := rfl
            have d8 : pAt s + 2 ≤ pAt (nxt bs (sEd s (uNd (pE s) (eNd (pE s) ++ [(-1, 0, 0, 0, tc)])))) := by
              have h3 : pP s ≤ pAt (nxt bs (sEd s (uNd (pE s) (eNd (pE s) ++ [(-1, 0, 0, 0, tc)])))) := nb.2
              omega
            have dl : ∀ x, ((eNd (pE e.2)).set (ndL s) x).length = ndL e.2 := fun x => List.length_set
            refine ⟨y1, ?_, ?_, rfl, fun i hi => ?_, ?_, ?_, ?_⟩
            · show ndL s < ((eNd (pE e.2)).set (ndL s) _).length
              rw [dl]; omega
            · show ((eNd (pE e.2)).set (ndL s) _).length ≤ 40
              rw [dl]; exact y3
            · show ((eNd (pE e.2)).set (ndL s) _)[i]? = _
              rw [List.getElem?_set_ne (by omega), y5 i (by omega), d3, w5 i (by omega), d1, List.getElem?_append_left hi]
            · show cnL s ≤ cnL e.2
              omega
            · show pAt s + 3 * cnL e.2 + 1 ≤ pAt e.2 + 3 * cnL s
              omega
            · show eCh (pE e.2) = _
              rw [y8, d3, w8, e2E v3]
              exact u5.nd.2.1
theorem pN_ng {bs : List Nat} {tc : Nat} : ∀ (d : Nat) (s : PS) (q : Nat × PS), tkB bs s.1 → ndL s ≤ 40 → pN bs tc d s = .ok q → NG bs s q := by
  intro d
  induction d with
  | zero => exact pNodeB_ng (fun r hr => by cases hr) (fun r hr => by cases hr)
  | succ d ih => exact pNodeB_ng (fun r hr => by cases hr; exact fun s q hb hq => ⟨pCondB_pg (pO_pg d) s q hb hq, pCondB_ce (pO_ce d) s q hq⟩) (fun r hr => by cases hr; exact ih)
