/-! The parser in plain words: what it gives is an edition (nodes) -/
set_option maxRecDepth 100000
def NRow (b tc : Nat) (E : Ed) (i : Nat) (x : Nd) : Prop := x.2.2.2.2 = tc ∧ (x.1 < 0 → i < x.2.2.1 ∧ x.2.2.1 < (eNd E).length ∧ i < x.2.2.2.1 ∧ x.2.2.2.1 < (eNd E).length ∧ x.2.1 < (eCn E).length ∧ b ≤ x.2.1) ∧ (¬ x.1 < 0 → ∃ k, k < (eCl E).length ∧ x.1 = nI k)
def clOk (E : Ed) : Prop := ∀ c ∈ eCl E, isNm c.1
def NV (b tc : Nat) (s q : PS) : Prop := Inv b q ∧ (∃ l, eCl (pE q) = eCl (pE s) ++ l) ∧ (∃ l, eCn (pE q) = eCn (pE s) ++ l) ∧ (∀ (i : Nat) (x : Nd), ndL s ≤ i → (eNd (pE q))[i]? = some x → NRow b tc (pE q) i x) ∧ (∀ i, cnL s ≤ i → i < cnL q → (∃ (n : Nat) (x : Nd), ndL s ≤ n ∧ (eNd (pE q))[n]? = some x ∧ x.1 < 0 ∧ x.2.1 = i) ∨ ∃ (j : Nat) (k : Cn), (eCn (pE q))[j]? = some k ∧ i < j ∧ chd k i) ∧ clOk (pE q) ∧ eRk (pE q) = eRk (pE s) ∧ ePt (pE q) = ePt (pE s)
theorem NRow.mono {b tc i : Nat} {E E' : Ed} {x : Nd} (h : NRow b tc E i x) (h1 : (eNd E).length ≤ (eNd E').length) (h2 : (eCn E).length ≤ (eCn E').length) (h3 : (eCl E).length ≤ (eCl E').length) : NRow b tc E' i x := by
  obtain ⟨a1, a2, a3⟩ := h
  refine ⟨a1, fun z => ?_, fun z => ?_⟩
  · obtain ⟨c1, c2, c3, c4, c5, c6⟩ := a2 z
    exact ⟨c1, by omega, c3, by omega, by omega, c6⟩
  · obtain ⟨k, c1, c2⟩ := a3 z
    exact ⟨k, by omega, c2⟩
theorem pLeaf_nv {bs : List Nat} {b tc : Nat} {s : PS} {q : Nat × PS} (hb : tkB bs s.1) (hi : Inv b s) (hcl : clOk (pE s)) (h16 : (eCl (pE s)).length ≤ 16) (h : pLeaf bs tc s = .ok q) : NV b tc s q.2 ∧ (eCl (pE q.2)).length ≤ 16 := by
  obtain ⟨a1, a2, a3, a4, a5, a6, rfl⟩ := pLeaf_ok h
  have n1 := nxt_b hb
  have hnm : isNm (pW (nxt bs s)) := n1.1.nm (nameOk_k a2).1
  have kle := clI_le (pE s) (pW (nxt bs s))
  generalize hcl' : (if clI (pE s) (pW (nxt bs s)) = (eCl (pE s)).length then eCl (pE s) ++ [(pW (nxt bs s), nI (pNm (nxt bs (nxt bs s))))] else eCl (pE s)) = cl'
  have hpre : ∃ l, cl' = eCl (pE s) ++ l := by
    rw [← hcl']
    split
    · exact ⟨_, rfl⟩
    · exact ⟨[], (List.append_nil _).symm⟩
  have hk : clI (pE s) (pW (nxt bs s)) < cl'.length := by
    rw [← hcl']
    split
    · rw [List.length_append, List.length_singleton]; omega
    · omega
  have hl16 : cl'.length ≤ 16 := by
    rw [← hcl']
    split
    · rw [List.length_append, List.length_singleton]; omega
    · exact h16
  refine ⟨⟨hi, hpre, ⟨[], (List.append_nil _).symm⟩, fun i x hi1 hx => ?_, fun i h1 h2 => absurd h2 (Nat.not_lt.mpr h1), ?_, rfl, rfl⟩, hl16⟩
  · have hx' : (eNd (pE s) ++ [(nI (clI (pE s) (pW (nxt bs s))), 0, 0, 0, tc)])[i]? = some x := hx
    have hi1' : (eNd (pE s)).length ≤ i := hi1
    rw [List.getElem?_append_right hi1'] at hx'
    rcases Nat.lt_or_ge 0 (i - (eNd (pE s)).length) with y | y
    · rw [List.getElem?_eq_none (by rw [List.length_singleton]; omega)] at hx'; cases hx'
    · have e : i - (eNd (pE s)).length = 0 := by omega
      rw [e] at hx'
      have hxe : x = (nI (clI (pE s) (pW (nxt bs s))), 0, 0, 0, tc) := (Option.some.inj hx').symm
      subst hxe
      refine ⟨rfl, fun z => ?_, fun z => ⟨clI (pE s) (pW (nxt bs s)), hk, rfl⟩⟩
      exact absurd z (nI_pos (by omega))
  · intro c hc
    have hc' : c ∈ cl' := hc
    rw [← hcl'] at hc'
    split at hc'
    · rcases List.mem_append.mp hc' with y | y
      · exact hcl c y
      · rw [List.mem_singleton.mp y]; exact hnm
    · exact hcl c hc'
def NP (bs : List Nat) (b tc : Nat) (p : PS → Except Nat (Nat × PS)) : Prop := ∀ s q, tkB bs s.1 → ndL s ≤ 40 → (eCl (pE s)).length ≤ 16 → 3 * cnL s ≤ pAt s → b ≤ cnL s → Inv b s → clOk (pE s) → p s = .ok q → NV b tc s q.2 ∧ (eCl (pE q.2)).length ≤ 16
theorem Inv.ed {b : Nat} {s : PS} {E : Ed} (h : Inv b s) (e : eCn E = eCn (pE s)) : Inv b (sEd s E) := by
  unfold Inv
  show cOk2 (eCn E) ∧ AI b (eCn E) s.2.2 ∧ ∀ (i : Nat) (k : Cn), b ≤ i → (eCn E)[i]? = some k → _
  rw [e]
  exact h
theorem pre_len {α : Type} {a b : List α} (h : ∃ l, b = a ++ l) : a.length ≤ b.length := by
  obtain ⟨l, rfl⟩ := h
  rw [List.length_append]
  exact Nat.le_add_right _ _
theorem pre_row {α : Type} {a b : List α} (h : ∃ l, b = a ++ l) {j : Nat} {k : α} (hk : a[j]? = some k) : b[j]? = some k := by
  obtain ⟨l, rfl⟩ := h
  exact (List.getElem?_append_left (List.getElem?_eq_some_iff.mp hk).1).trans hk
theorem pre_tr {α : Type} {a b c : List α} (h : ∃ l, b = a ++ l) (k : ∃ l, c = b ++ l) : ∃ l, c = a ++ l := by
  obtain ⟨l, rfl⟩ := h
  obtain ⟨m, rfl⟩ := k
  exact ⟨l ++ m, List.append_assoc ..⟩
theorem pNodeB_nv {bs : List Nat} {b tc : Nat} {rc : Option ((PS → Except Nat (Nat × PS)) × (PS → Except Nat (Nat × PS)))} (h1 : ∀ r, rc = some r → CP bs b r.1 ∧ ∀ s q, tkB bs s.1 → r.1 s = .ok q → CG bs s q ∧ CE s q.2) (h2 : ∀ r, rc = some r → NP bs b tc r.2 ∧ ∀ s q, tkB bs s.1 → ndL s ≤ 40 → r.2 s = .ok q → NG bs s q) : NP bs b tc (pNodeB bs tc rc) := by
  intro s q hb h40 h16 hcn hbs hi hcl h
  have n1 := nxt_b hb
  have hat : pAt s ≤ pP s := hb.1
  have ecn : cnL (nxt bs s) = cnL s := rfl
  unfold pNodeB at h
  split at h
  · cases rc with
    | none => cases h
    | some r =>
      obtain ⟨v, g1, g2, g3⟩ := pClose_ok h
      obtain ⟨k1, k2⟩ := (h2 r rfl).1 _ _ n1.1 h40 h16 (by omega) (by omega) (hi.eq rfl) hcl g1
      have m3 := pMustS_2 g2
      have eE : pE q.2 = pE v.2 := e2E m3
      obtain ⟨b1, b2, b3, b4, b5, b6, b7, b8⟩ := k1
      refine ⟨⟨b1.eq m3, by rw [eE]; exact b2, by rw [eE]; exact b3, by rw [eE]; exact b4, ?_, by rw [eE]; exact b6, by rw [eE]; exact b7, by rw [eE]; exact b8⟩, by rw [eE]; exact k2⟩
      intro i hi1 hi2
      have hi2' : i < (eCn (pE q.2)).length := hi2
      rw [eE] at hi2' ⊢
      exact b5 i hi1 hi2'
  · split at h
    · exact pLeaf_nv hb hi hcl h16 h
    · split at h
      · cases h
      · split at h
        · cases h
        · next hn =>
          cases rc with
          | none => cases h
          | some r =>
            obtain ⟨c, g1, g2⟩ := bnd_ok h
            obtain ⟨s2, g3, g4⟩ := bnd_ok g2
            obtain ⟨t, g5, g6⟩ := bnd_ok g4
            obtain ⟨s3, g7, g8⟩ := bnd_ok g6
            obtain ⟨e, g9, g10⟩ := bnd_ok g8
            cases g10
            have nb := nxt_b (s := sEd s (uNd (pE s) (eNd (pE s) ++ [(-1, 0, 0, 0, tc)]))) hb
            have hi' : Inv b (nxt bs (sEd s (uNd (pE s) (eNd (pE s) ++ [(-1, 0, 0, 0, tc)])))) := (hi.ed (E := uNd (pE s) (eNd (pE s) ++ [(-1, 0, 0, 0, tc)])) rfl).eq rfl
            have hp0 : pP s ≤ pAt (nxt bs (sEd s (uNd (pE s) (eNd (pE s) ++ [(-1, 0, 0, 0, tc)])))) := nb.2
            have ecn' : cnL (nxt bs (sEd s (uNd (pE s) (eNd (pE s) ++ [(-1, 0, 0, 0, tc)])))) = cnL s := rfl
            obtain ⟨⟨u1, u2, u3, u4⟩, u5⟩ := (h1 r rfl).2 _ _ nb.1 g1
            obtain ⟨ci1, ci2, ci3⟩ := (h1 r rfl).1 _ _ nb.1 (by omega) (by omega) hi' g1
            obtain ⟨v1, v2, v3, _, _⟩ := pMustW_ok u1 g3
            have hn' : ¬ ndL s = 40 := hn
            have l16 : (wd 16).length = 4 := by decide
            have l7 : (wd 7).length = 4 := by decide
            have eE2 : pE s2 = pE c.2 := e2E v3
            have d1 : eNd (pE s2) = eNd (pE s) ++ [(-1, 0, 0, 0, tc)] := by rw [eE2]; exact u5.nd.1
            have d2 : ndL s2 = ndL s + 1 := by show (eNd (pE s2)).length = _; rw [d1, List.length_append]; rfl
            have d6 : cnL s2 = cnL c.2 := by show (eCn (pE s2)).length = _; rw [eE2]
            have dcl : eCl (pE s2) = eCl (pE s) := by rw [eE2]; exact u5.nd.2.2.1
            have pcn : ∃ l, eCn (pE s2) = eCn (pE s) ++ l := by
              obtain ⟨l, hl⟩ := u5
              exact ⟨l, by rw [eE2, hl]; rfl⟩
            obtain ⟨w1, w2, w3, w4, w5, w6, w7, w8⟩ := (h2 r rfl).2 _ _ v1 (by omega) g5
            obtain ⟨⟨t1, t2, t3, t4, t5, t6, t7, t8⟩, t9⟩ := (h2 r rfl).1 _ _ v1 (by omega) (by rw [dcl]; exact h16) (by omega) (by omega) (ci1.eq v3) (by intro x hx; rw [dcl] at hx; exact hcl x hx) g5
            obtain ⟨x1, x2, x3, _, _⟩ := pMustW_ok w1 g7
            have d3 : pE s3 = pE t.2 := e2E x3
            have d4 : ndL s3 = ndL t.2 := by show (eNd (pE s3)).length = _; rw [d3]
            have d5 : cnL s3 = cnL t.2 := by show (eCn (pE s3)).length = _; rw [d3]
            obtain ⟨y1, y2, y3, y4, y5, y6, y7, y8⟩ := (h2 r rfl).2 _ _ x1 (by omega) g9
            obtain ⟨⟨e1, e2, e3, e4, e5, e6, e7, e8⟩, e9⟩ := (h2 r rfl).1 _ _ x1 (by omega) (by rw [d3]; exact t9) (by omega) (by omega) (t1.eq x3) (by rw [d3]; exact t6) g9
            rw [d3] at e2 e3
            have lcn1 := pre_len t3
            have lcn2 := pre_len e3
            have lcl1 := pre_len t2
            have lcl2 := pre_len e2
            have lnd : ∀ x, ((eNd (pE e.2)).set (ndL s) x).length = ndL e.2 := fun x => List.length_set
            -- rows of the new table
            have rowEq : ∀ i, i ≠ ndL s → ((eNd (pE e.2)).set (ndL s) (-1, c.1, t.1, e.1, tc))[i]? = (eNd (pE e.2))[i]? := fun i hne => List.getElem?_set_ne (fun z => hne z.symm)
            have rowT : ∀ i, i < ndL t.2 → (eNd (pE e.2))[i]? = (eNd (pE t.2))[i]? := fun i hi => by rw [y5 i (by omega), d3]
            refine ⟨⟨e1.ed rfl, ?_, ?_, ?_, ?_, e6, ?_, ?_⟩, e9⟩
            · show ∃ l, eCl (pE e.2) = eCl (pE s) ++ l
              rw [dcl] at t2
              exact pre_tr t2 e2
            · show ∃ l, eCn (pE e.2) = eCn (pE s) ++ l
              exact pre_tr pcn (pre_tr t3 e3)
            · intro i x hi1 hx
              have hx' : ((eNd (pE e.2)).set (ndL s) (-1, c.1, t.1, e.1, tc))[i]? = some x := hx
              by_cases ei : i = ndL s
              · subst ei
                rw [List.getElem?_set_self (by show ndL s < ndL e.2; omega)] at hx'
                have hxe := (Option.some.inj hx').symm
                subst hxe
                refine ⟨rfl, fun _ => ⟨?_, ?_, ?_, ?_, ?_, ?_⟩, fun z => absurd (by decide : (-1 : Int32) < 0) z⟩
                · show ndL s < t.1; omega
                · show t.1 < ((eNd (pE e.2)).set (ndL s) _).length; rw [lnd]; omega
                · show ndL s < e.1; omega
                · show e.1 < ((eNd (pE e.2)).set (ndL s) _).length; rw [lnd]; omega
                · show c.1 < cnL e.2; omega
                · show b ≤ c.1; omega
              · rw [rowEq i ei] at hx'
                rcases Nat.lt_or_ge i (ndL t.2) with z | z
                · rw [rowT i z] at hx'
                  refine (t4 i x (by omega) hx').mono ?_ ?_ ?_
                  · show ndL t.2 ≤ ((eNd (pE e.2)).set (ndL s) _).length; rw [lnd]; omega
                  · exact lcn2
                  · exact lcl2
                · refine (e4 i x (by omega) hx').mono ?_ (Nat.le_refl _) (Nat.le_refl _)
                  show ndL e.2 ≤ ((eNd (pE e.2)).set (ndL s) _).length; rw [lnd]; exact Nat.le_refl _
            · intro i hi1 hi2
              have hi2' : i < cnL e.2 := hi2
              have perR : ∀ (n : Nat) (x : Nd), n ≠ ndL s → (eNd (pE e.2))[n]? = some x → ((eNd (pE e.2)).set (ndL s) (-1, c.1, t.1, e.1, tc))[n]? = some x := fun n x hne hx => by rw [rowEq n hne]; exact hx
              rcases Nat.lt_or_ge i (cnL c.2) with z | z
              · rcases ci3 i (by omega) z with y | ⟨j, k, j1, j2, j3⟩
                · refine Or.inl ⟨ndL s, (-1, c.1, t.1, e.1, tc), Nat.le_refl _, ?_, (by decide : (-1 : Int32) < 0), y.symm⟩
                  show ((eNd (pE e.2)).set (ndL s) _)[ndL s]? = _
                  exact List.getElem?_set_self (by show ndL s < ndL e.2; omega)
                · exact Or.inr ⟨j, k, pre_row e3 (pre_row t3 (by rw [eE2]; exact j1)), j2, j3⟩
              · rcases Nat.lt_or_ge i (cnL t.2) with z2 | z2
                · rcases t5 i (by omega) z2 with ⟨n, x, j0, j1, j2, j3⟩ | ⟨j, k, j1, j2, j3⟩
                  · have hnlt : n < ndL t.2 := (List.getElem?_eq_some_iff.mp j1).1
                    refine Or.inl ⟨n, x, by omega, ?_, j2, j3⟩
                    exact perR n x (by omega) (by rw [rowT n hnlt]; exact j1)
                  · exact Or.inr ⟨j, k, pre_row e3 j1, j2, j3⟩
                · rcases e5 i (by omega) hi2' with ⟨n, x, j0, j1, j2, j3⟩ | ⟨j, k, j1, j2, j3⟩
                  · exact Or.inl ⟨n, x, by omega, perR n x (by omega) j1, j2, j3⟩
                  · exact Or.inr ⟨j, k, j1, j2, j3⟩
            · show eRk (pE e.2) = _
              rw [e7, d3, t7, eE2]
              exact u5.nd.2.2.2.1
            · show ePt (pE e.2) = _
              rw [e8, d3, t8, eE2]
              exact u5.nd.2.2.2.2
theorem pN_nv {bs : List Nat} {b tc : Nat} (h9 : bs.length ≤ 900) : ∀ (d : Nat), NP bs b tc (pN bs tc d) := by
  intro d
  induction d with
  | zero => exact pNodeB_nv (fun r hr => by cases hr) (fun r hr => by cases hr)
  | succ d ih => exact pNodeB_nv (fun r hr => by cases hr; exact ⟨pCondB_ci h9 (pO_ci h9 d) (pO_pg d) (pO_ce d), fun s q hb hq => ⟨pCondB_pg (pO_pg d) s q hb hq, pCondB_ce (pO_ce d) s q hq⟩⟩) (fun r hr => by cases hr; exact ⟨ih, pN_ng d⟩)
