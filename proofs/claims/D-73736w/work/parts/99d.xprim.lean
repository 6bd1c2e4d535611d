/-! The component's reader: what stands here -/
set_option maxRecDepth 100000
/-- the Reader at R holds the token l of the text bs -/
def XL (G : GP) (n0 : Nat) (y : HS) (R e X tp op ln : Nat) (ch : Option Nat) (bs : List Nat) (l : LxS) : Prop := WF G y ∧ tpX y X tp bs ∧ X ≠ R ∧ tp ≠ R ∧ tkB bs l ∧ ∃ tok, rdO y R bs.length e X l.2.2 l.1 tok (if l.2.1.1 = 0 then 1 else 0) op ln ch ∧ TkX G y tok l.2.1 ∧ ∀ q, tok = some q → l.2.1.1 = 2 → n0 ≤ q
/-- all but the Reader is kept -/
def FrR (y y' : HS) (R : Nat) : Prop := (∀ a, a < y.2 → a ≠ R → y'.1 a = y.1 a) ∧ y.2 ≤ y'.2
theorem FrR.rf (y : HS) (R : Nat) : FrR y y R := ⟨fun _ _ _ => rfl, Nat.le_refl _⟩
theorem FrR.tr {y y' y'' : HS} {R : Nat} (h : FrR y y' R) (k : FrR y' y'' R) : FrR y y'' R := ⟨fun a ha hne => (k.1 a (Nat.lt_of_lt_of_le ha h.2) hne).trans (h.1 a ha hne), Nat.le_trans h.2 k.2⟩
theorem XL.rd {G : GP} {n0 : Nat} {y : HS} {R e X tp op ln : Nat} {ch : Option Nat} {bs : List Nat} {l : LxS} (h : XL G n0 y R e X tp op ln ch bs l) : ∃ fs, rd G y R (ob 4 fs) := by
  obtain ⟨_, _, _, _, _, tok, h1, _⟩ := h
  exact ⟨_, Or.inl h1⟩
theorem xl_nxt {G : GP} {n0 : Nat} {y : HS} {R e X tp op ln B : Nat} {ch : Option Nat} {bs : List Nat} {s : PS} {post : HS → Prop} (h : XL G n0 y R e X tp op ln ch bs s.1) (hn : n0 ≤ y.2) (hB : cN bs (pP s) ≤ B) (hp : ∀ y', XL G n0 y' R e X tp op ln ch bs (nxt bs s).1 → FrR y y' R → post y') : wp_X6_next G B post y R := by
  obtain ⟨hw, ht, h1, h2, h3, tok, h4, h5, h6⟩ := h
  have lX : X < y.2 := by obtain ⟨⟨fs, a1⟩, _⟩ := ht; exact hw.lt a1
  have lT : tp < y.2 := by obtain ⟨_, ⟨g, a2, _⟩, _⟩ := ht; exact hw.lt a2
  exact xl_next hw h4 ht h3.2.1 h1 h2 hB (fun y' tok' w' r' t' f' n' q' => hp y' ⟨w', ht.same (f' X lX h1) (f' tp lT h2), h1, h2, (lex_b h3.2.1).1, tok', r', t', fun q z1 z2 => Nat.le_trans hn (q' q z1 z2)⟩ ⟨f', n'⟩)
theorem cN_le {bs : List Nat} {p : Nat} (hp : p ≤ bs.length) : cN bs p ≤ 4 * ((lex bs p).2.2 - (lex bs p).1) := by
  unfold cN
  cases hc : bs[skp bs p]? with
  | none => exact Nat.zero_le _
  | some c =>
    by_cases hl : isLd c = true
    · rw [lex_run hc hl]
      have := rnn_pos hc hl
      show (if isLd c = true then 4 else 0) ≤ 4 * (skp bs p + (rnn bs (skp bs p)).length - skp bs p)
      rw [if_pos hl]
      omega
    · show (if isLd c = true then 4 else 0) ≤ _
      rw [if_neg hl]
      exact Nat.zero_le _
theorem tk_in {G : GP} {y : HS} {tok : Option Nat} {t : Tk} (h : TkX G y tok t) : isIn G y tok 20 (decide (t.1 = 2)) ∧ isIn G y tok 22 (decide (t.1 = 4)) := by
  rcases h with ⟨h0, h1⟩ | ⟨h0, q, h1, h2⟩ | ⟨h0, q, z, hh, zz, h1, h2, h3, h4⟩ | ⟨h0, q, h1, h2⟩ | ⟨h0, h1, h2⟩
  · exact ⟨Or.inl ⟨h1, decide_eq_false (by omega)⟩, Or.inl ⟨h1, decide_eq_false (by omega)⟩⟩
  · exact ⟨Or.inr ⟨q, 5, _, h1, Or.inl h2, by decide, Or.inr ⟨by decide, by decide, decide_eq_false (by omega)⟩⟩, Or.inr ⟨q, 5, _, h1, Or.inl h2, by decide, Or.inr ⟨by decide, by decide, decide_eq_false (by omega)⟩⟩⟩
  · exact ⟨Or.inr ⟨q, 20, _, h1, Or.inl h2, by decide, Or.inl ⟨rfl, decide_eq_true h0⟩⟩, Or.inr ⟨q, 20, _, h1, Or.inl h2, by decide, Or.inr ⟨by decide, by decide, decide_eq_false (by omega)⟩⟩⟩
  · exact ⟨Or.inr ⟨q, 21, _, h1, h2, by decide, Or.inr ⟨by decide, by decide, decide_eq_false (by omega)⟩⟩, Or.inr ⟨q, 21, _, h1, h2, by decide, Or.inr ⟨by decide, by decide, decide_eq_false (by omega)⟩⟩⟩
  · have hr : rd G y (gC G t.2.2) (ob 22 [.int (nI t.2.2)]) := Or.inr (Or.inr (Or.inr (Or.inr (Or.inl ⟨_, h1, rfl, rfl⟩))))
    exact ⟨Or.inr ⟨_, 22, _, h2, hr, by decide, Or.inr ⟨by decide, by decide, decide_eq_false (by omega)⟩⟩, Or.inr ⟨_, 22, _, h2, hr, by decide, Or.inl ⟨rfl, decide_eq_true h0⟩⟩⟩
theorem xl_isSign {G : GP} {n0 : Nat} {y : HS} {R e X tp op ln c : Nat} {ch : Option Nat} {bs : List Nat} {s : PS} {post : Bool → HS → Prop} (h : XL G n0 y R e X tp op ln ch bs s.1) (hc : c < 128) (hp : post (isS s c) y) : wp_X6_isSign G post y R (nI c) := by
  obtain ⟨hw, ht, h1, h2, h3, tok, h4, h5, h6⟩ := h
  unfold isS at hp
  refine ⟨tok, ⟨_, h4, rfl⟩, _, (tk_in h5).2, fun z => ?_, fun z => ?_⟩
  · rw [decide_eq_false (fun w => of_decide_eq_false z w.1)] at hp
    exact hp
  · have z' : s.1.2.1.1 = 4 := of_decide_eq_true z
    rcases h5 with ⟨h0, _⟩ | ⟨h0, _⟩ | ⟨h0, _⟩ | ⟨h0, _⟩ | ⟨h0, k1, k2⟩
    · omega
    · omega
    · omega
    · omega
    · have hr : rd G y (gC G s.1.2.1.2.2) (ob 22 [.int (nI s.1.2.1.2.2)]) := Or.inr (Or.inr (Or.inr (Or.inr (Or.inl ⟨_, k1, rfl, rfl⟩))))
      refine ⟨fun a ha => ?_, _, k2, ⟨_, hr⟩, _, ⟨_, hr, rfl⟩, (chv _ k1).2.1, fun w => ?_, fun w => ?_⟩
      · rw [k2] at ha
        cases ha
        exact ⟨_, hr⟩
      · rw [decide_eq_false (fun v => w (congrArg nI v.2))] at hp; exact hp
      · rw [decide_eq_true ⟨z', (nI_eq (show s.1.2.1.2.2 < 2 ^ 31 by omega) (by omega)).mp w⟩] at hp; exact hp
/-- a word's String against a told word -/
theorem xl_equals {G : GP} {y : HS} {q k : Nat} {w : List Nat} {z : Option Nat} {hh zz : Int32} {post : Bool → HS → Prop} (hw : WF G y) (hG : GK G) (hk : k < 20) (hs : y.1 q = some (ob 20 [va_rf z, .int 0, .int hh, .int zz])) (hb : byR G y z w) (hp : post (decide (w = wd k)) y) : wp_J5_equals G post y q (some (gK G k)) := by
  have hne : ¬ (some q) = some (gK G k) := by
    intro e
    have e1 := Option.some.inj e
    have h1 := (hw.1 _ _ hs).2
    have h2 := hG.1 k hk
    omega
  have s2 := srR.con (G := G) (y := y) hk
  have hof := s2.of
  obtain ⟨r2, d2, e2⟩ := s2
  refine ⟨fun _ => ⟨true, Or.inr ⟨_, 20, _, rfl, d2, by decide, Or.inl ⟨rfl, rfl⟩⟩, fun h => (by cases h), fun _ => ⟨fun y6 r7 => y6 = y ∧ r7 = some (gK G k), ?_, hof, fun h => absurd h (by decide), fun _ => ⟨_, ⟨_, Or.inl hs, rfl⟩, _, rfl, _, ⟨_, d2, rfl⟩, fun h => absurd rfl h, fun _ => ⟨rfl, rfl⟩⟩⟩⟩, fun he => absurd he hne⟩
  rintro y6 r7 ⟨rfl, rfl⟩
  refine ⟨_, ⟨_, Or.inl hs, rfl⟩, _, rfl, _, ⟨_, d2, rfl⟩, sp_J10_equals hb e2 ⟨fun hb => ?_, fun hb => ?_⟩⟩ <;> (rw [hb] at hp; exact hp)
theorem xl_isWord {G : GP} {n0 : Nat} {y : HS} {R e X tp op ln k : Nat} {ch : Option Nat} {bs : List Nat} {s : PS} {post : Bool → HS → Prop} (hG : GK G) (h : XL G n0 y R e X tp op ln ch bs s.1) (hk : k < 20) (hp : post (isW s k) y) : wp_X6_isWord G post y R (some (gK G k)) := by
  obtain ⟨hw, ht, h1, h2, h3, tok, h4, h5, h6⟩ := h
  unfold isW at hp
  refine ⟨tok, ⟨_, h4, rfl⟩, _, (tk_in h5).1, fun z => ?_, fun z => ?_⟩
  · rw [decide_eq_false (fun w => of_decide_eq_false z w.1)] at hp
    exact hp
  · have z' : s.1.2.1.1 = 2 := of_decide_eq_true z
    rcases h5 with ⟨h0, _⟩ | ⟨h0, _⟩ | ⟨h0, q, zz, hh, zz2, k1, k2, k3, k4⟩ | ⟨h0, _⟩ | ⟨h0, _⟩
    · omega
    · omega
    · refine ⟨fun a ha => ?_, q, k1, ⟨_, Or.inl k2⟩, xl_equals hw hG hk k2 k3 ⟨fun w => ?_, fun w => ?_⟩⟩
      · rw [k1] at ha
        cases ha
        exact ⟨_, Or.inl k2⟩
      · rw [decide_eq_false (fun v => of_decide_eq_false w v.2)] at hp; exact hp
      · rw [decide_eq_true ⟨z', of_decide_eq_true w⟩] at hp; exact hp
    · omega
    · omega
