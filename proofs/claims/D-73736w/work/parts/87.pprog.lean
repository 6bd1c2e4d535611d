/-! The parser in plain words: how many bytes a piece takes -/
set_option maxRecDepth 100000
abbrev cnL (s : PS) : Nat := (eCn (pE s)).length
theorem bnd_ok {α β : Type} {r : Except Nat α} {f : α → Except Nat β} {b : β} (h : bnd r f = .ok b) : ∃ a, r = .ok a ∧ f a = .ok b := by
  cases r with
  | error e => cases h
  | ok a => exact ⟨a, rfl, h⟩
theorem bnd_er {α β : Type} {r : Except Nat α} {f : α → Except Nat β} {e : Nat} (h : bnd r f = .error e) : r = .error e ∨ ∃ a, r = .ok a ∧ f a = .error e := by
  cases r with
  | error e' =>
    have h' : (Except.error e' : Except Nat β) = .error e := h
    cases h'
    exact Or.inl rfl
  | ok a => exact Or.inr ⟨a, rfl, h⟩
theorem nxt_b {bs : List Nat} {s : PS} (h : tkB bs s.1) : tkB bs (nxt bs s).1 ∧ pP s ≤ pAt (nxt bs s) := lex_b h.2.1
theorem isW_k {s : PS} {k : Nat} (h : isW s k = true) : pK s = 2 ∧ pW s = wd k := of_decide_eq_true h
theorem isS_k {s : PS} {k : Nat} (h : isS s k = true) : pK s = 4 ∧ pNm s = k := of_decide_eq_true h
theorem isW_p {bs : List Nat} {s : PS} {k : Nat} (h : tkB bs s.1) (hw : isW s k = true) : pP s = pAt s + (wd k).length := by
  obtain ⟨h1, h2⟩ := isW_k hw
  have := (h.2.2.2.2.1 h1).1
  rw [← h2]
  exact this
theorem tk_p {bs : List Nat} {s : PS} (h : tkB bs s.1) (hk : pK s ≠ 0) : pAt s + 1 ≤ pP s := h.2.2.1 hk
theorem isS_p {bs : List Nat} {s : PS} {k : Nat} (h : tkB bs s.1) (hw : isS s k = true) : pAt s + 1 ≤ pP s := tk_p h (by rw [(isS_k hw).1]; omega)
theorem pMustS_ok {bs : List Nat} {s q : PS} {c : Nat} (h : tkB bs s.1) (e : pMustS bs c s = .ok q) : tkB bs q.1 ∧ pAt s + 1 ≤ pAt q ∧ q.2 = s.2 ∧ isS s c = true ∧ q = nxt bs s := by
  unfold pMustS at e
  split at e
  · next hS =>
    cases e
    have h1 := nxt_b h
    have h2 := isS_p h hS
    exact ⟨h1.1, by omega, rfl, hS, rfl⟩
  · cases e
theorem pMustW_ok {bs : List Nat} {s q : PS} {k : Nat} (h : tkB bs s.1) (e : pMustW bs k s = .ok q) : tkB bs q.1 ∧ pAt s + (wd k).length ≤ pAt q ∧ q.2 = s.2 ∧ isW s k = true ∧ q = nxt bs s := by
  unfold pMustW at e
  split at e
  · next hS =>
    cases e
    have h1 := nxt_b h
    have h2 := isW_p h hS
    exact ⟨h1.1, by omega, rfl, hS, rfl⟩
  · cases e
theorem pSpan_pg {bs : List Nat} {o1 o2 : Bool} {s s' : PS} {sp : Sp} (hb : tkB bs s.1) (h : pSpan bs o1 o2 s = .ok (sp, s')) : tkB bs s'.1 ∧ pAt s + 3 ≤ pAt s' := by
  have h1 := nxt_b hb
  unfold pSpan at h
  split at h
  · cases h
  · next hk =>
    have hp : pP s = pAt s + 3 := hb.2.2.2.2.2.1 (Decidable.not_not.mp hk)
    split at h
    · cases h
    · split at h
      · cases h
      · split at h
        · cases h; exact ⟨h1.1, by omega⟩
        · next hw =>
          have h2 := nxt_b h1.1
          have w2 := tk_p h1.1 (by
            have := isW_k (s := nxt bs s) (k := 17) (by simpa using hw)
            rw [this.1]; omega)
          split at h
          · cases h
          · next hk3 =>
            have h3 := nxt_b h2.1
            have w3 := tk_p h2.1 (by rw [Decidable.not_not.mp hk3]; omega)
            split at h
            · cases h
            · cases h
              exact ⟨h3.1, by omega⟩
theorem pNum_pg {bs : List Nat} {lo hi : Nat} {s s' : PS} {v : Int32} (hb : tkB bs s.1) (h : pNum bs lo hi s = .ok (v, s')) : tkB bs s'.1 ∧ pAt s + 1 ≤ pAt s' := by
  have h1 := nxt_b hb
  unfold pNum at h
  split at h
  · cases h
  · next hk =>
    have w := tk_p hb (by rw [Decidable.not_not.mp hk]; omega)
    split at h
    · cases h
    · cases h
      exact ⟨h1.1, by omega⟩
/-- a condition takes 3 bytes for each row, and 2 -/
def CG (bs : List Nat) (s : PS) (q : Nat × PS) : Prop := tkB bs q.2.1 ∧ cnL s < cnL q.2 ∧ q.1 < cnL q.2 ∧ pAt s + 3 * cnL q.2 + 2 ≤ pAt q.2 + 3 * cnL s
theorem nwC_1 (s : PS) (k : Cn) : (nwC s k).1 = cnL s := rfl
theorem nwC_c (s : PS) (k : Cn) : cnL (nwC s k).2 = cnL s + 1 := by
  show (eCn (pE s) ++ [k]).length = _
  rw [List.length_append]
  rfl
theorem pAtom_ok {pl w : Nat} {a b : Int32} {s : PS} {q : Nat × PS} (h : pAtom pl w a b s = .ok q) : q.2.1 = s.1 ∧ cnL q.2 = cnL s + 1 ∧ q.1 = cnL s := by
  unfold pAtom at h
  split at h
  · cases h
  · cases h
    exact ⟨rfl, nwC_c _ _, rfl⟩
theorem pSpanC_pg {bs : List Nat} {w k : Nat} {s : PS} {q : Nat × PS} (hb : tkB bs s.1) (hw : isW s k = true) (hl : 3 ≤ (wd k).length) (h : pSpanC bs w s = .ok q) : CG bs s q := by
  obtain ⟨r, h1, h2⟩ := bnd_ok h
  have n1 := nxt_b hb
  have e1 := isW_p hb hw
  obtain ⟨a1, a2⟩ := pSpan_pg n1.1 (sp := r.1) (s' := r.2) h1
  obtain ⟨b1, b2, b3⟩ := pAtom_ok h2
  have c1 : cnL r.2 = cnL s := by
    have := (pSpan_ok (sp := r.1) (s' := r.2) h1).1
    show (eCn r.2.2.1).length = _
    rw [this]
    rfl
  have hat : pAt q.2 = pAt r.2 := by show q.2.1.1 = _; rw [b1]
  refine ⟨by rw [b1]; exact a1, by omega, by omega, ?_⟩
  omega
theorem pComp_pg {bs : List Nat} {w k : Nat} {s : PS} {q : Nat × PS} (hb : tkB bs s.1) (hw : isW s k = true) (hl : 3 ≤ (wd k).length) (h : pComp bs w s = .ok q) : CG bs s q := by
  unfold pComp at h
  split at h
  · cases h
  · next hs =>
    obtain ⟨r, h1, h2⟩ := bnd_ok h
    have n1 := nxt_b hb
    have e1 := isW_p hb hw
    have e2 : pAt (nxt bs s) + 1 ≤ pP (nxt bs s) := by
      cases h60 : isS (nxt bs s) 60 with
      | true => exact isS_p n1.1 h60
      | false =>
        cases h62 : isS (nxt bs s) 62 with
        | true => exact isS_p n1.1 h62
        | false => exact absurd ⟨h60, h62⟩ hs
    have n2 := nxt_b n1.1
    obtain ⟨a1, a2⟩ := pNum_pg n2.1 (v := r.1) (s' := r.2) h1
    obtain ⟨b1, b2, b3⟩ := pAtom_ok h2
    have c1 : cnL r.2 = cnL s := by
      have := (pNum_ok (v := r.1) (s' := r.2) h1).1
      show (eCn r.2.2.1).length = _
      rw [this]
      rfl
    have hat : pAt q.2 = pAt r.2 := by show q.2.1.1 = _; rw [b1]
    refine ⟨by rw [b1]; exact a1, by omega, by omega, ?_⟩
    omega
theorem pChain_step (bs : List Nat) (w op : Nat) (r : PS → Except Nat (Nat × PS)) (f c : Nat) (s : PS) : pChain bs w op r (f + 1) c s = if isW s w = true then bnd (r (nxt bs s)) (fun q => pChain bs w op r f (nwC q.2 (op, nI c, nI q.1, 0)).1 (nwC q.2 (op, nI c, nI q.1, 0)).2) else .ok (c, s) := rfl
theorem pChain_pg {bs : List Nat} {w op : Nat} {r : PS → Except Nat (Nat × PS)} (hr : ∀ s q, tkB bs s.1 → r s = .ok q → CG bs s q) (hl : 2 ≤ (wd w).length) : ∀ (f c : Nat) (s0 s : PS) (q : Nat × PS), CG bs s0 (c, s) → pChain bs w op r f c s = .ok q → CG bs s0 q := by
  intro f
  induction f with
  | zero => intro c s0 s q _ h; cases h
  | succ f ih =>
    intro c s0 s q h0 h
    rw [pChain_step] at h
    split at h
    · next hw =>
      obtain ⟨v, h1, h2⟩ := bnd_ok h
      have hb0 : tkB bs s.1 := h0.1
      have n1 := nxt_b hb0
      have e1 := isW_p hb0 hw
      obtain ⟨g1, g2, g3, g4⟩ := hr _ _ n1.1 h1
      have e : cnL (nxt bs s) = cnL s := rfl
      have h02 : cnL s0 < cnL s := h0.2.1
      have h4 : pAt s0 + 3 * cnL s + 2 ≤ pAt s + 3 * cnL s0 := h0.2.2.2
      have ec := nwC_c v.2 (op, nI c, nI v.1, 0)
      have hg : CG bs s0 ((nwC v.2 (op, nI c, nI v.1, 0)).1, (nwC v.2 (op, nI c, nI v.1, 0)).2) := by
        refine ⟨g1, ?_, ?_, ?_⟩
        · show cnL s0 < cnL (nwC v.2 (op, nI c, nI v.1, 0)).2; omega
        · show cnL v.2 < cnL (nwC v.2 (op, nI c, nI v.1, 0)).2; omega
        · show pAt s0 + 3 * cnL (nwC v.2 (op, nI c, nI v.1, 0)).2 + 2 ≤ pAt v.2 + 3 * cnL s0; omega
      exact ih _ s0 _ q hg h2
    · cases h
      exact h0
theorem pJoin_pg {bs : List Nat} {w op : Nat} {r : PS → Except Nat (Nat × PS)} (hr : ∀ s q, tkB bs s.1 → r s = .ok q → CG bs s q) (hl : 2 ≤ (wd w).length) : ∀ s q, tkB bs s.1 → pJoin bs w op r s = .ok q → CG bs s q := by
  intro s q hb h
  obtain ⟨v, h1, h2⟩ := bnd_ok h
  exact pChain_pg hr hl _ _ s _ q (hr s v hb h1) h2
theorem pCondB_pg {bs : List Nat} {r : PS → Except Nat (Nat × PS)} (hr : ∀ s q, tkB bs s.1 → r s = .ok q → CG bs s q) : ∀ s q, tkB bs s.1 → pCondB bs r s = .ok q → CG bs s q := pJoin_pg (pJoin_pg hr (by decide)) (by decide)
theorem pClose_ok {bs : List Nat} {r : Except Nat (Nat × PS)} {q : Nat × PS} (h : pClose bs r = .ok q) : ∃ v, r = .ok v ∧ pMustS bs 41 v.2 = .ok q.2 ∧ q.1 = v.1 := by
  obtain ⟨v, h1, h2⟩ := bnd_ok h
  obtain ⟨u, h3, h4⟩ := bnd_ok h2
  cases h4
  exact ⟨v, h1, h3, rfl⟩
theorem pOneB_pg {bs : List Nat} {rc : Option (PS → Except Nat (Nat × PS))} (hr : ∀ r, rc = some r → ∀ s q, tkB bs s.1 → r s = .ok q → CG bs s q) : ∀ s q, tkB bs s.1 → pOneB bs rc s = .ok q → CG bs s q := by
  intro s q hb h
  have n1 := nxt_b hb
  unfold pOneB at h
  split at h
  · next hw =>
    have e1 := isW_p hb hw
    have l12 : (wd 12).length = 3 := by decide
    cases rc with
    | none => cases h
    | some r =>
      obtain ⟨v, h1, h2⟩ := bnd_ok h
      cases h2
      obtain ⟨g1, g2, g3, g4⟩ := hr r rfl _ _ n1.1 h1
      have e : cnL (nxt bs s) = cnL s := rfl
      refine ⟨g1, ?_, ?_, ?_⟩
      · rw [nwC_c]; omega
      · rw [nwC_c, nwC_1]; omega
      · rw [nwC_c]
        show pAt s + 3 * (cnL v.2 + 1) + 2 ≤ pAt v.2 + 3 * cnL s
        omega
  · split at h
    · next hS =>
      have e1 := isS_p hb hS
      cases rc with
      | none => cases h
      | some r =>
        obtain ⟨v, h1, h2, h3⟩ := pClose_ok h
        obtain ⟨g1, g2, g3, g4⟩ := pCondB_pg (hr r rfl) _ _ n1.1 h1
        obtain ⟨m1, m2, m3, _, _⟩ := pMustS_ok g1 h2
        have e : cnL (nxt bs s) = cnL s := rfl
        have e2 : cnL q.2 = cnL v.2 := by show (eCn q.2.2.1).length = _; rw [m3]
        exact ⟨m1, by omega, by omega, by omega⟩
    · split at h
      · next hw => exact pSpanC_pg hb hw (by decide) h
      · split at h
        · next hw => exact pSpanC_pg hb hw (by decide) h
        · split at h
          · next hw => exact pSpanC_pg hb hw (by decide) h
          · split at h
            · next hw => exact pComp_pg hb hw (by decide) h
            · split at h
              · next hw => exact pComp_pg hb hw (by decide) h
              · split at h
                · next hw => exact pComp_pg hb hw (by decide) h
                · split at h
                  · next hw => exact pComp_pg hb hw (by decide) h
                  · cases h
theorem pO_pg {bs : List Nat} : ∀ (d : Nat) (s : PS) (q : Nat × PS), tkB bs s.1 → pO bs d s = .ok q → CG bs s q := by
  intro d
  induction d with
  | zero => exact pOneB_pg (fun r hr => by cases hr)
  | succ d ih => exact pOneB_pg (fun r hr => by cases hr; exact ih)
