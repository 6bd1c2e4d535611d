/-! The parser in plain words: what it gives is an edition (conditions) -/
set_option maxRecDepth 100000
def chd (k : Cn) (i : Nat) : Prop := (k.1 ≤ 1 ∧ (ix k.2.1 = i ∨ ix k.2.2.1 = i)) ∨ (k.1 = 2 ∧ ix k.2.1 = i)
/-- the unlike conditions of a tree whose rows begin at b -/
def AI (b : Nat) (cs A : List Cn) : Prop := (∀ w, (atF w A).length ≤ 6) ∧ (∀ (w i : Nat) (k : Cn), (atF w A)[i]? = some k → k.2.2.2 = i) ∧ ∀ (i : Nat) (k : Cn), b ≤ i → cs[i]? = some k → 3 ≤ k.1 → (atF k.1 A)[k.2.2.2]? = some k
def Inv (b : Nat) (s : PS) : Prop := cOk2 (eCn (pE s)) ∧ AI b (eCn (pE s)) (pA s) ∧ ∀ (i : Nat) (k : Cn), b ≤ i → (eCn (pE s))[i]? = some k → (k.1 ≤ 1 → b ≤ ix k.2.1 ∧ b ≤ ix k.2.2.1) ∧ (k.1 = 2 → b ≤ ix k.2.1)
def COV (s : PS) (q : Nat × PS) : Prop := ∀ i, cnL s ≤ i → i < cnL q.2 → i = q.1 ∨ ∃ (j : Nat) (k : Cn), (eCn (pE q.2))[j]? = some k ∧ i < j ∧ chd k i
theorem cn_snoc {cs : List Cn} {k l : Cn} {i : Nat} (h : (cs ++ [k])[i]? = some l) : (i < cs.length ∧ cs[i]? = some l) ∨ (i = cs.length ∧ l = k) := by
  rcases Nat.lt_or_ge i cs.length with z | z
  · rw [List.getElem?_append_left z] at h; exact Or.inl ⟨z, h⟩
  · rw [List.getElem?_append_right z] at h
    rcases Nat.lt_or_ge 0 (i - cs.length) with y | y
    · rw [List.getElem?_eq_none (by rw [List.length_singleton]; omega)] at h; cases h
    · have e : i - cs.length = 0 := by omega
      rw [e] at h
      exact Or.inr ⟨by omega, (Option.some.inj h).symm⟩
/-- a row put at the end that joins rows -/
theorem Inv.join {b op c d : Nat} {s : PS} (h : Inv b s) (hop : op ≤ 1) (hc : c < cnL s) (hd : d < cnL s) (hbc : b ≤ c) (hbd : b ≤ d) (hl : cnL s < 1000) : Inv b (nwC s (op, nI c, nI d, 0)).2 := by
  obtain ⟨h1, ⟨a1, a2, a3⟩, h3⟩ := h
  have ec : ix (nI c) = c := nI_clamp (by omega)
  have ed : ix (nI d) = d := nI_clamp (by omega)
  refine ⟨fun i k hk => ?_, ⟨a1, a2, fun i k hb hk h3' => ?_⟩, fun i k hb hk => ?_⟩
  · rcases cn_snoc (show (eCn (pE s) ++ [_])[i]? = some k from hk) with ⟨hi, hk'⟩ | ⟨hi, rfl⟩
    · exact h1 i k hk'
    · have hi' : i = cnL s := hi
      exact ⟨by show op ≤ 9; omega, fun _ => ⟨c, d, rfl, by omega, rfl, by omega⟩, fun z => absurd z (by show ¬ op = 2; omega), fun z => absurd z (by show ¬ 3 ≤ op; omega)⟩
  · rcases cn_snoc (show (eCn (pE s) ++ [_])[i]? = some k from hk) with ⟨hi, hk'⟩ | ⟨hi, rfl⟩
    · exact a3 i k hb hk' h3'
    · exact absurd h3' (by show ¬ 3 ≤ op; omega)
  · rcases cn_snoc (show (eCn (pE s) ++ [_])[i]? = some k from hk) with ⟨hi, hk'⟩ | ⟨hi, rfl⟩
    · exact h3 i k hb hk'
    · refine ⟨fun _ => ⟨?_, ?_⟩, fun z => absurd z (by show ¬ op = 2; omega)⟩
      · show b ≤ ix (nI c); omega
      · show b ≤ ix (nI d); omega
theorem Inv.neg {b c : Nat} {s : PS} (h : Inv b s) (hc : c < cnL s) (hbc : b ≤ c) (hl : cnL s < 1000) : Inv b (nwC s (2, nI c, -1, 0)).2 := by
  obtain ⟨h1, ⟨a1, a2, a3⟩, h3⟩ := h
  have ec : ix (nI c) = c := nI_clamp (by omega)
  refine ⟨fun i k hk => ?_, ⟨a1, a2, fun i k hb hk h3' => ?_⟩, fun i k hb hk => ?_⟩
  · rcases cn_snoc (show (eCn (pE s) ++ [_])[i]? = some k from hk) with ⟨hi, hk'⟩ | ⟨hi, rfl⟩
    · exact h1 i k hk'
    · have hi' : i = cnL s := hi
      exact ⟨(by decide : 2 ≤ 9), fun z => absurd z (by decide : ¬ 2 ≤ 1), fun _ => ⟨c, rfl, by omega⟩, fun z => absurd z (by decide : ¬ 3 ≤ 2)⟩
  · rcases cn_snoc (show (eCn (pE s) ++ [_])[i]? = some k from hk) with ⟨hi, hk'⟩ | ⟨hi, rfl⟩
    · exact a3 i k hb hk' h3'
    · exact absurd h3' (by decide : ¬ 3 ≤ 2)
  · rcases cn_snoc (show (eCn (pE s) ++ [_])[i]? = some k from hk) with ⟨hi, hk'⟩ | ⟨hi, rfl⟩
    · exact h3 i k hb hk'
    · refine ⟨fun z => absurd z (by decide : ¬ 2 ≤ 1), fun _ => ?_⟩
      show b ≤ ix (nI c); omega
theorem Inv.eq {b : Nat} {s q : PS} (h : Inv b s) (e : q.2 = s.2) : Inv b q := by
  unfold Inv
  show cOk2 (eCn q.2.1) ∧ AI b (eCn q.2.1) q.2.2 ∧ ∀ i k, b ≤ i → (eCn q.2.1)[i]? = some k → _
  rw [e]
  exact h
theorem pAtom_inv {pl w b : Nat} {x y : Int32} {s : PS} {q : Nat × PS} (hw : 3 ≤ w ∧ w ≤ 9) (hi : Inv b s) (h : pAtom pl w x y s = .ok q) : Inv b q.2 := by
  obtain ⟨h1, ⟨a1, a2, a3⟩, h3⟩ := hi
  unfold pAtom at h
  split at h
  · cases h
  · next h6 =>
    cases h
    have hle := atI_le w x y (pA s)
    have hl6 := a1 w
    -- the new list of unlike ones
    have key : ∀ A', A' = (if atI w x y (pA s) = (atF w (pA s)).length then pA s ++ [(w, x, y, atI w x y (pA s))] else pA s) → (∀ v, (atF v A').length ≤ 6) ∧ (∀ (v i : Nat) (k : Cn), (atF v A')[i]? = some k → k.2.2.2 = i) ∧ (∀ (v i : Nat) (k : Cn), (atF v (pA s))[i]? = some k → (atF v A')[i]? = some k) ∧ (atF w A')[atI w x y (pA s)]? = some (w, x, y, atI w x y (pA s)) := by
      intro A' hA'
      by_cases he : atI w x y (pA s) = (atF w (pA s)).length
      · rw [if_pos he] at hA'
        subst hA'
        have sn : ∀ v, atF v (pA s ++ [(w, x, y, atI w x y (pA s))]) = if decide (w < 6) = decide (v < 6) then atF v (pA s) ++ [(w, x, y, atI w x y (pA s))] else atF v (pA s) := fun v => atF_snoc v _ _
        have same : ∀ v, decide (w < 6) = decide (v < 6) → atF v (pA s) = atF w (pA s) := by
          intro v hv
          unfold atF
          rw [hv]
        refine ⟨fun v => ?_, fun v i k hk => ?_, fun v i k hk => ?_, ?_⟩
        · rw [sn]
          split
          · next hv => rw [List.length_append, List.length_singleton, same v hv]; omega
          · exact a1 v
        · rw [sn] at hk
          split at hk
          · next hv =>
            rcases cn_snoc hk with ⟨_, hk'⟩ | ⟨hii, rfl⟩
            · exact a2 v i k hk'
            · show atI w x y (pA s) = i
              rw [hii, same v hv]; exact he
          · exact a2 v i k hk
        · rw [sn]
          split
          · exact List.getElem?_append_left (List.getElem?_eq_some_iff.mp hk).1 |>.trans hk
          · exact hk
        · rw [sn, if_pos rfl, he, List.getElem?_append_right (Nat.le_refl _), Nat.sub_self]
          rfl
      · rw [if_neg he] at hA'
        subst hA'
        refine ⟨a1, a2, fun v i k hk => hk, ?_⟩
        have hlt : atI w x y (pA s) < (atF w (pA s)).length := by omega
        have hat := atI_at hlt
        have hu := a2 w _ _ (List.getElem?_eq_getElem hlt)
        rw [List.getElem?_eq_getElem hlt]
        congr 1
        obtain ⟨e1, e2, e3⟩ := hat
        exact Prod.ext e1 (Prod.ext e2 (Prod.ext e3 hu))
    obtain ⟨k1, k2, k3, k4⟩ := key _ rfl
    refine ⟨fun i k hk => ?_, ⟨k1, k2, fun i k hb hk h3' => ?_⟩, fun i k hb hk => ?_⟩
    · rcases cn_snoc (show (eCn (pE s) ++ [_])[i]? = some k from hk) with ⟨hi, hk'⟩ | ⟨hi, rfl⟩
      · exact h1 i k hk'
      · exact ⟨hw.2, fun z => absurd z (by show ¬ w ≤ 1; omega), fun z => absurd z (by show ¬ w = 2; omega), fun _ => by show atI w x y (pA s) < 6; omega⟩
    · rcases cn_snoc (show (eCn (pE s) ++ [_])[i]? = some k from hk) with ⟨hi, hk'⟩ | ⟨hi, rfl⟩
      · exact k3 _ _ _ (a3 i k hb hk' h3')
      · exact k4
    · rcases cn_snoc (show (eCn (pE s) ++ [_])[i]? = some k from hk) with ⟨hi, hk'⟩ | ⟨hi, rfl⟩
      · exact h3 i k hb hk'
      · exact ⟨fun z => absurd z (by show ¬ w ≤ 1; omega), fun z => absurd z (by show ¬ w = 2; omega)⟩
/-- what a condition's parse gives -/
def CIv (b : Nat) (s : PS) (q : Nat × PS) : Prop := Inv b q.2 ∧ cnL s ≤ q.1 ∧ COV s q
theorem pAtom_ci {pl w b : Nat} {x y : Int32} {s s0 : PS} {q : Nat × PS} (hw : 3 ≤ w ∧ w ≤ 9) (hi : Inv b s) (e0 : cnL s = cnL s0) (h : pAtom pl w x y s = .ok q) : CIv b s0 q := by
  obtain ⟨_, e2, e3⟩ := pAtom_ok h
  exact ⟨pAtom_inv hw hi h, by omega, fun i h1 h2 => Or.inl (by omega)⟩
theorem pSpanC_ci {bs : List Nat} {w b : Nat} {s : PS} {q : Nat × PS} (hw : 3 ≤ w ∧ w ≤ 9) (hi : Inv b s) (h : pSpanC bs w s = .ok q) : CIv b s q := by
  obtain ⟨r, h1, h2⟩ := bnd_ok h
  have e1 := (pSpan_ok (sp := r.1) (s' := r.2) h1).1
  exact pAtom_ci hw (hi.eq (q := r.2) e1) (by show (eCn r.2.2.1).length = _; rw [e1]; rfl) h2
theorem pComp_ci {bs : List Nat} {w b : Nat} {s : PS} {q : Nat × PS} (hw : 3 ≤ w ∧ w ≤ 9) (hi : Inv b s) (h : pComp bs w s = .ok q) : CIv b s q := by
  unfold pComp at h
  split at h
  · cases h
  · obtain ⟨r, h1, h2⟩ := bnd_ok h
    have e1 := (pNum_ok (v := r.1) (s' := r.2) h1).1
    exact pAtom_ci hw (hi.eq (q := r.2) e1) (by show (eCn r.2.2.1).length = _; rw [e1]; rfl) h2
theorem CE.row {s q : PS} (h : CE s q) {j : Nat} {k : Cn} (hk : (eCn (pE s))[j]? = some k) : (eCn (pE q))[j]? = some k := by
  obtain ⟨l, h⟩ := h
  rw [h]
  show (eCn (pE s) ++ l)[j]? = _
  exact (List.getElem?_append_left (List.getElem?_eq_some_iff.mp hk).1).trans hk
theorem CE.len {s q : PS} (h : CE s q) : cnL s ≤ cnL q := by
  obtain ⟨l, h⟩ := h
  show _ ≤ (eCn (pE q)).length
  rw [h]
  show _ ≤ (eCn (pE s) ++ l).length
  rw [List.length_append]
  exact Nat.le_add_right _ _
/-- a parser of conditions that keeps all this -/
def CP (bs : List Nat) (b : Nat) (p : PS → Except Nat (Nat × PS)) : Prop := ∀ s q, tkB bs s.1 → 3 * cnL s ≤ pAt s → b ≤ cnL s → Inv b s → p s = .ok q → CIv b s q
theorem pChain_ci {bs : List Nat} {b w op : Nat} {r : PS → Except Nat (Nat × PS)} (h9 : bs.length ≤ 900) (hop : op ≤ 1) (hr : CP bs b r) (hg : ∀ s q, tkB bs s.1 → r s = .ok q → CG bs s q) (he : ∀ s q, r s = .ok q → CE s q.2) (hl : 2 ≤ (wd w).length) : ∀ (f c : Nat) (s0 s : PS) (q : Nat × PS), tkB bs s.1 → 3 * cnL s + 2 ≤ pAt s → b ≤ cnL s0 → cnL s0 ≤ cnL s → c < cnL s → CIv b s0 (c, s) → pChain bs w op r f c s = .ok q → CIv b s0 q := by
  intro f
  induction f with
  | zero => intro c s0 s q _ _ _ _ _ _ h; cases h
  | succ f ih =>
    intro c s0 s q hb hcn hbs hs0 hc hC h
    rw [pChain_step] at h
    split at h
    · next hw =>
      obtain ⟨v, h1, h2⟩ := bnd_ok h
      have n1 := nxt_b hb
      have e1 := isW_p hb hw
      have ecn : cnL (nxt bs s) = cnL s := rfl
      obtain ⟨g1, g2, g3, g4⟩ := hg _ _ n1.1 h1
      have hvat : pAt v.2 ≤ bs.length := Nat.le_trans g1.1 g1.2.1
      have hE := he _ _ h1
      obtain ⟨c1, c2, c3⟩ := hr _ _ n1.1 (by omega) (by omega) (hC.1.eq rfl) h1
      obtain ⟨_, d2, d3⟩ := hC
      have d2' : cnL s0 ≤ c := d2
      have c2' : cnL s ≤ v.1 := c2
      have en := nwC_c v.2 (op, nI c, nI v.1, 0)
      have eC : ix (nI c) = c := nI_clamp (by omega)
      have eV : ix (nI v.1) = v.1 := nI_clamp (by omega)
      refine ih (nwC v.2 (op, nI c, nI v.1, 0)).1 s0 (nwC v.2 (op, nI c, nI v.1, 0)).2 q g1 ?_ hbs ?_ ?_ ⟨c1.join hop (by omega) g3 (by omega) (by omega) (by omega), ?_, ?_⟩ h2
      · rw [en]; show 3 * (cnL v.2 + 1) + 2 ≤ pAt v.2; omega
      · omega
      · show cnL v.2 < _; omega
      · show cnL s0 ≤ cnL v.2; omega
      · intro i hi1 hi2
        have hi2' : i < cnL (nwC v.2 (op, nI c, nI v.1, 0)).2 := hi2
        have hrow : (eCn (pE (nwC v.2 (op, nI c, nI v.1, 0)).2))[cnL v.2]? = some (op, nI c, nI v.1, 0) := by
          show (eCn (pE v.2) ++ [_])[(eCn (pE v.2)).length]? = _
          rw [List.getElem?_append_right (Nat.le_refl _), Nat.sub_self]; rfl
        have pers : ∀ j k, (eCn (pE v.2))[j]? = some k → (eCn (pE (nwC v.2 (op, nI c, nI v.1, 0)).2))[j]? = some k := fun j k hk => (CE.nw v.2 _).row hk
        rcases Nat.lt_or_ge i (cnL s) with z | z
        · rcases d3 i hi1 z with y | ⟨j, k, y1, y2, y3⟩
          · have y' : i = c := y
            exact Or.inr ⟨cnL v.2, _, hrow, by omega, Or.inl ⟨hop, Or.inl (by rw [y']; exact eC)⟩⟩
          · exact Or.inr ⟨j, k, pers j k (hE.row (show (eCn (pE (nxt bs s)))[j]? = some k from y1)), y2, y3⟩
        · rcases Nat.lt_or_ge i (cnL v.2) with z2 | z2
          · rcases c3 i z z2 with y | ⟨j, k, y1, y2, y3⟩
            · exact Or.inr ⟨cnL v.2, _, hrow, by omega, Or.inl ⟨hop, Or.inr (by rw [y]; exact eV)⟩⟩
            · exact Or.inr ⟨j, k, pers j k y1, y2, y3⟩
          · exact Or.inl (by show i = cnL v.2; omega)
    · cases h
      exact hC
theorem pJoin_ci {bs : List Nat} {b w op : Nat} {r : PS → Except Nat (Nat × PS)} (h9 : bs.length ≤ 900) (hop : op ≤ 1) (hr : CP bs b r) (hg : ∀ s q, tkB bs s.1 → r s = .ok q → CG bs s q) (he : ∀ s q, r s = .ok q → CE s q.2) (hl : 2 ≤ (wd w).length) : CP bs b (pJoin bs w op r) := by
  intro s q hb hcn hbs hi h
  obtain ⟨v, h1, h2⟩ := bnd_ok h
  obtain ⟨g1, g2, g3, g4⟩ := hg s v hb h1
  exact pChain_ci h9 hop hr hg he hl _ _ s _ q g1 (by omega) hbs (by omega) g3 (hr s v hb hcn hbs hi h1) h2
theorem pCondB_ci {bs : List Nat} {b : Nat} {r : PS → Except Nat (Nat × PS)} (h9 : bs.length ≤ 900) (hr : CP bs b r) (hg : ∀ s q, tkB bs s.1 → r s = .ok q → CG bs s q) (he : ∀ s q, r s = .ok q → CE s q.2) : CP bs b (pCondB bs r) := pJoin_ci h9 (by omega) (pJoin_ci h9 (by omega) hr hg he (by decide)) (pJoin_pg hg (by decide)) (pJoin_ce he) (by decide)
theorem pOneB_ci {bs : List Nat} {b : Nat} {rc : Option (PS → Except Nat (Nat × PS))} (h9 : bs.length ≤ 900) (hr : ∀ r, rc = some r → CP bs b r ∧ (∀ s q, tkB bs s.1 → r s = .ok q → CG bs s q) ∧ ∀ s q, r s = .ok q → CE s q.2) : CP bs b (pOneB bs rc) := by
  intro s q hb hcn hbs hi h
  have n1 := nxt_b hb
  have ecn : cnL (nxt bs s) = cnL s := rfl
  have hat : pAt s ≤ pP s := hb.1
  unfold pOneB at h
  split at h
  · cases rc with
    | none => cases h
    | some r =>
      obtain ⟨r1, r2, r3⟩ := hr r rfl
      obtain ⟨v, h1, h2⟩ := bnd_ok h
      cases h2
      obtain ⟨g1, g2, g3, g4⟩ := r2 _ _ n1.1 h1
      have hvat : pAt v.2 ≤ bs.length := Nat.le_trans g1.1 g1.2.1
      obtain ⟨c1, c2, c3⟩ := r1 _ _ n1.1 (by omega) (by omega) (hi.eq rfl) h1
      have eV : ix (nI v.1) = v.1 := nI_clamp (by omega)
      refine ⟨c1.neg g3 (by omega) (by omega), ?_, ?_⟩
      · show cnL s ≤ cnL v.2; omega
      · intro i hi1 hi2
        have en := nwC_c v.2 (2, nI v.1, -1, 0)
        have hi2' : i < cnL (nwC v.2 (2, nI v.1, -1, 0)).2 := hi2
        have hrow : (eCn (pE (nwC v.2 (2, nI v.1, -1, 0)).2))[cnL v.2]? = some (2, nI v.1, -1, 0) := by
          show (eCn (pE v.2) ++ [_])[(eCn (pE v.2)).length]? = _
          rw [List.getElem?_append_right (Nat.le_refl _), Nat.sub_self]; rfl
        rcases Nat.lt_or_ge i (cnL v.2) with z2 | z2
        · rcases c3 i hi1 z2 with y | ⟨j, k, y1, y2, y3⟩
          · exact Or.inr ⟨cnL v.2, _, hrow, by omega, Or.inr ⟨rfl, by rw [y]; exact eV⟩⟩
          · exact Or.inr ⟨j, k, (CE.nw v.2 _).row y1, y2, y3⟩
        · exact Or.inl (by show i = cnL v.2; omega)
  · split at h
    · cases rc with
      | none => cases h
      | some r =>
        obtain ⟨r1, r2, r3⟩ := hr r rfl
        obtain ⟨v, h1, h2, h3⟩ := pClose_ok h
        obtain ⟨c1, c2, c3⟩ := pCondB_ci h9 r1 r2 r3 _ _ n1.1 (by omega) (by omega) (hi.eq rfl) h1
        have m3 := pMustS_2 h2
        have eE : pE q.2 = pE v.2 := e2E m3
        refine ⟨c1.eq m3, by rw [h3]; exact c2, fun i hi1 hi2 => ?_⟩
        have hi2' : i < (eCn (pE q.2)).length := hi2
        rw [eE] at hi2' ⊢
        rw [h3]
        exact c3 i hi1 hi2'
    · split at h
      · exact pSpanC_ci (by omega) hi h
      · split at h
        · exact pSpanC_ci (by omega) hi h
        · split at h
          · exact pSpanC_ci (by omega) hi h
          · split at h
            · exact pComp_ci (by omega) hi h
            · split at h
              · exact pComp_ci (by omega) hi h
              · split at h
                · exact pComp_ci (by omega) hi h
                · split at h
                  · exact pComp_ci (by omega) hi h
                  · cases h
theorem pO_ci {bs : List Nat} {b : Nat} (h9 : bs.length ≤ 900) : ∀ (d : Nat), CP bs b (pO bs d) := by
  intro d
  induction d with
  | zero => exact pOneB_ci h9 (fun r hr => by cases hr)
  | succ d ih => exact pOneB_ci h9 (fun r hr => by cases hr; exact ⟨ih, pO_pg d, pO_ce d⟩)
