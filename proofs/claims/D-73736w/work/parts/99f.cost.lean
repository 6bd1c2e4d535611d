/-! What reading costs: two units a byte for tokens, three for what is built of them -/
set_option maxRecDepth 100000
def isTok (bs : List Nat) (l : LxS) : Prop := ∃ p, p ≤ bs.length ∧ l = lex bs p
theorem isTok.nxt {bs : List Nat} {s : PS} (h : isTok bs s.1) : isTok bs (nxt bs s).1 := by
  obtain ⟨p, hp, e⟩ := h
  refine ⟨pP s, ?_, rfl⟩
  have := (lex_b hp).1.2.1
  show s.1.2.2 ≤ _
  rw [e]
  exact this
theorem isTok.b {bs : List Nat} {l : LxS} (h : isTok bs l) : tkB bs l := by
  obtain ⟨p, hp, rfl⟩ := h
  exact (lex_b hp).1
/-- a run, or the end -/
def rnk (bs : List Nat) (a : Nat) : Nat := match bs[a]? with
  | none => 2
  | some c => if isLd c then 2 else 0
/-- what has been paid up to the token -/
def mu2 (bs : List Nat) (s : PS) : Nat := 2 * pP s + rnk bs (pAt s)
theorem rnk_le (bs : List Nat) (a : Nat) : rnk bs a ≤ 2 := by
  unfold rnk
  split
  · exact Nat.le_refl _
  · split <;> omega
theorem cN_mu {bs : List Nat} {s : PS} (h : isTok bs s.1) : cN bs (pP s) + mu2 bs s ≤ mu2 bs (nxt bs s) := by
  have hb := h.b
  have hpl : pP s ≤ bs.length := hb.2.1
  have hsk := skp_ge bs (pP s)
  have eAt : pAt (nxt bs s) = skp bs (pP s) := lex_at bs (pP s)
  have hr := rnk_le bs (pAt s)
  unfold mu2
  rw [eAt]
  cases hc : bs[skp bs (pP s)]? with
  | none =>
    have eP : pP (nxt bs s) = skp bs (pP s) := by show (lex bs (pP s)).2.2 = _; rw [lex_none hc]
    have e1 : cN bs (pP s) = 0 := by unfold cN; rw [hc]
    have e2 : rnk bs (skp bs (pP s)) = 2 := by unfold rnk; rw [hc]
    rw [eP, e1, e2]
    omega
  | some c =>
    by_cases hl : isLd c = true
    · have eP : pP (nxt bs s) = skp bs (pP s) + (rnn bs (skp bs (pP s))).length := by show (lex bs (pP s)).2.2 = _; rw [lex_run hc hl]
      have h1 := rnn_pos hc hl
      have e1 : cN bs (pP s) = 4 := by unfold cN; rw [hc]; exact if_pos hl
      have e2 : rnk bs (skp bs (pP s)) = 2 := by unfold rnk; rw [hc]; exact if_pos hl
      rw [eP, e1, e2]
      -- a run after a run: a byte between them
      have key : rnk bs (pAt s) = 0 ∨ pP s + 1 ≤ skp bs (pP s) := by
        obtain ⟨p, hp, e⟩ := h
        have ea : pAt s = skp bs p := by show s.1.1 = _; rw [e, lex_at]
        cases hd : bs[skp bs p]? with
        | none =>
          exfalso
          have h2 : bs.length ≤ skp bs p := List.getElem?_eq_none_iff.mp hd
          have h3 : pP s = skp bs p := by show s.1.2.2 = _; rw [e, lex_none hd]
          have h4 : skp bs (pP s) < bs.length := (List.getElem?_eq_some_iff.mp hc).1
          omega
        | some d =>
          by_cases hdl : isLd d = true
          · refine Or.inr ?_
            have h3 : pP s = skp bs p + (rnn bs (skp bs p)).length := by show s.1.2.2 = _; rw [e, lex_run hd hdl]
            rcases Nat.lt_or_ge (pP s) (skp bs (pP s)) with z | z
            · omega
            · have hq : skp bs (pP s) = pP s := by omega
              rw [hq, h3] at hc
              have := rnn_stop hc
              rw [this] at hl
              cases hl
          · refine Or.inl ?_
            unfold rnk
            rw [ea, hd]
            exact if_neg hdl
      rcases key with z | z
      · rw [z]; omega
      · omega
    · have hl' : isLd c = false := Bool.eq_false_iff.mpr hl
      have eP : pP (nxt bs s) = skp bs (pP s) + 1 := by
        show (lex bs (pP s)).2.2 = _
        by_cases hs : isSg c = true
        · rw [lex_sg hc hl' hs]
        · rw [lex_bad hc hl' (Bool.eq_false_iff.mpr hs)]
      have e1 : cN bs (pP s) = 0 := by unfold cN; rw [hc]; exact if_neg hl
      have e2 : rnk bs (skp bs (pP s)) = 0 := by unfold rnk; rw [hc]; exact if_neg hl
      rw [eP, e1, e2]
      omega
/-- all that may have been spent up to the token -/
def mu (bs : List Nat) (s : PS) : Nat := mu2 bs s + 3 * pAt s
theorem cN_mu5 {bs : List Nat} {s : PS} (h : isTok bs s.1) : cN bs (pP s) + 3 * (pP s - pAt s) + mu bs s ≤ mu bs (nxt bs s) := by
  have h1 := cN_mu h
  have h2 := (nxt_b h.b).2
  have h3 : pAt s ≤ pP s := h.b.1
  unfold mu
  omega
