/-! The component's reader: atoms -/
set_option maxRecDepth 100000
/-- the Reader's open, lines, chapter are written -/
theorem XP.wr {G : GP} {y0 : HS} {n0 : Nat} {y : HS} {R e X tp op ln op' ln' : Nat} {ch ch' tok : Option Nat} {bs : List Nat} {s : PS} (h : XP G y0 n0 y R e X tp op ln ch bs s) (hR : y.1 R = some (ob 4 [.int (nI bs.length), va_rf (some e), .int (nI (pP s)), .int (nI (pAt s)), va_rf tok, .int (if pK s = 0 then 1 else 0), .int (nI op), .int (nI ln), va_rf ch, va_rf (some X)])) : XP G y0 n0 (hput y R (ob 4 [.int (nI bs.length), va_rf (some e), .int (nI (pP s)), .int (nI (pAt s)), va_rf tok, .int (if pK s = 0 then 1 else 0), .int (nI op'), .int (nI ln'), va_rf ch', va_rf (some X)])) R e X tp op' ln' ch' bs s := by
  obtain ⟨⟨w, t, a1, a2, a3, tok', a4, a5, a6⟩, b1, b2, b3, b4⟩ := h
  have et : tok' = tok := by
    have := Option.some.inj (a4.symm.trans hR)
    have e2 := (ob_inj.mp this).2
    injection e2 with _ e2
    injection e2 with _ e2
    injection e2 with _ e2
    injection e2 with _ e2
    injection e2 with e2 _
    exact va_rf_inj.mp e2
  subst et
  refine ⟨⟨w.put hR, t.same (hput_ne a1) (hput_ne a2), a1, a2, a3, tok', hput_at _ _ _, a5.put hR, a6⟩, b1, b2.st (fun a ha => hput_ne (by omega)), b3, b4⟩
theorem px_opens {G : GP} {y0 : HS} {n0 : Nat} {y : HS} {R e X tp op ln B : Nat} {ch : Option Nat} {bs : List Nat} {s : PS} {nn : Nat} {D : LM} {K : Nat → Nat} {g : EG} {gA : Nat → List Cn} {post : HS → Prop} {xp : Nat → Nat → HS → Prop} (h : PX G y0 n0 y R e X tp op ln ch bs s nn D K g gA) (hop : op ≤ 9) (hB : op = 9 → 1 ≤ B) (hp : op < 9 → ∀ y', PX G y0 n0 y' R e X tp (op + 1) ln ch bs s nn D K g gA → Qs y y' → post y') (hx : op = 9 → ∀ q y', XF G R ln (8 * pAt s + 4) n0 y0 6 q y' → xp 6 q y') : wp_X6_opens G B post xp y R := by
  obtain ⟨tok, cR⟩ := h.1.cell
  refine ⟨fun y' u b r => y' = y ∧ u = 0 ∧ r = some R ∧ b = decide (op < 9), ?_, _, ⟨_, cR, rfl⟩, fun hge => ⟨rfl, rfl, rfl, ?_⟩, fun hlt => ⟨rfl, rfl, rfl, ?_⟩⟩
  · rintro y3 u6 b4 r5 ⟨rfl, rfl, rfl, rfl⟩
    refine ⟨Nat.zero_le _, R, rfl, h.rdr, B, by omega, xp_must h.1 (fun hb => hB ?_) (fun hb => ?_) (fun hb => hx ?_)⟩
    · have := of_decide_eq_false hb; omega
    · have h9 : op < 9 := of_decide_eq_true hb
      refine ⟨_, ⟨_, cR, rfl⟩, _, cR, by show 6 < 10; omega, fun y12 hy12 => ?_⟩
      have e12 : y12 = hput y3 R (ob 4 [.int (nI bs.length), va_rf (some e), .int (nI (pP s)), .int (nI (pAt s)), va_rf tok, .int (if pK s = 0 then 1 else 0), .int (nI (op + 1)), .int (nI ln), va_rf ch, va_rf (some X)]) := by
        rw [hy12, nI_add]; rfl
      have q12 : Qs y3 y12 := by rw [e12]; exact Qs.put4 cR
      exact hp h9 y12 (h.q (by rw [e12]; exact h.1.wr cR) rfl q12) q12
    · have := of_decide_eq_false hb; omega
  · have : 9 ≤ op := (nI_leI (by omega) (by omega)).mp hge
    exact (decide_eq_false (by omega)).symm
  · have : ¬ 9 ≤ op := fun z => hlt (nI_le z (by omega))
    exact (decide_eq_true (by omega)).symm
/-- the end of what was opened -/
theorem px_close {G : GP} {y0 : HS} {n0 : Nat} {y : HS} {R e X tp op ln : Nat} {ch : Option Nat} {bs : List Nat} {s : PS} {nn : Nat} {D : LM} {K : Nat → Nat} {g : EG} {gA : Nat → List Cn} {post : HS → Prop} (h : PX G y0 n0 y R e X tp (op + 1) ln ch bs s nn D K g gA) (hp : ∀ y', PX G y0 n0 y' R e X tp op ln ch bs s nn D K g gA → Qs y y' → post y') : ∃ f121, fI y R 4 6 f121 ∧ ∃ fs123, y.1 R = some (ob 4 fs123) ∧ 6 < fs123.length ∧ ∀ y122, y122 = hput y R (ob 4 (fs123.set 6 (.int (f121 - (nI 1))))) → post y122 := by
  obtain ⟨tok, cR⟩ := h.1.cell
  refine ⟨_, ⟨_, cR, rfl⟩, _, cR, by show 6 < 10; omega, fun y12 hy12 => ?_⟩
  have e12 : y12 = hput y R (ob 4 [.int (nI bs.length), va_rf (some e), .int (nI (pP s)), .int (nI (pAt s)), va_rf tok, .int (if pK s = 0 then 1 else 0), .int (nI op), .int (nI ln), va_rf ch, va_rf (some X)]) := by
    rw [hy12, nI_sub (by omega)]; rfl
  have q12 : Qs y y12 := by rw [e12]; exact Qs.put4 cR
  exact hp y12 (h.q (by rw [e12]; exact h.1.wr cR) rfl q12) q12
theorem take_snocA {α : Type} {r : List α} {j : Nat} (h : j < r.length) : r.take (j + 1) = r.take j ++ [r[j]] := by
  rw [List.take_succ, List.getElem?_eq_getElem h]
  rfl
/-- places of the unlike ones -/
def AIx (A : List Cn) : Prop := (∀ w, (atF w A).length ≤ 6) ∧ ∀ (w i : Nat) (k : Cn), (atF w A)[i]? = some k → k.2.2.2 = i
theorem AIx.nil : AIx [] := ⟨fun w => Nat.zero_le _, fun w i k h => (by cases h)⟩
theorem pAtom_A {pl w : Nat} {x y : Int32} {s : PS} {q : Nat × PS} (h : pAtom pl w x y s = .ok q) : pA q.2 = (if atI w x y (pA s) = (atF w (pA s)).length then pA s ++ [(w, x, y, atI w x y (pA s))] else pA s) ∧ q.1 = cnL s ∧ pE q.2 = uCn (pE s) (eCn (pE s) ++ [(w, x, y, atI w x y (pA s))]) ∧ q.2.1 = s.1 ∧ atI w x y (pA s) ≠ 6 := by
  unfold pAtom at h
  split at h
  · cases h
  · next h6 =>
    cases h
    exact ⟨rfl, rfl, rfl, rfl, h6⟩
theorem AIx.atom {pl w : Nat} {x y : Int32} {s : PS} {q : Nat × PS} (hw : 3 ≤ w ∧ w ≤ 9) (hi : AIx (pA s)) (h : pAtom pl w x y s = .ok q) : AIx (pA q.2) := by
  have hA := (pAtom_A h).1
  have h6 := (pAtom_A h).2.2.2.2
  have hq : pAtom pl w x y (s.1, E0, pA s) = .ok (nwC (s.1, E0, if atI w x y (pA s) = (atF w (pA s)).length then pA s ++ [(w, x, y, atI w x y (pA s))] else pA s) (w, x, y, atI w x y (pA s))) := by
    unfold pAtom
    rw [if_neg h6]
  have hI : Inv 0 ((s.1, E0, pA s) : PS) := ⟨fun i k hk => (by cases hk), ⟨hi.1, hi.2, fun i k _ hk => (by cases hk)⟩, fun i k _ hk => (by cases hk)⟩
  obtain ⟨-, ⟨a1, a2, -⟩, -⟩ := pAtom_inv hw hI hq
  rw [hA]
  exact ⟨a1, a2⟩
theorem filter_find {α : Type} {p f : α → Bool} (hpf : ∀ c, p c = true → f c = true) : ∀ (A : List α), (A.findIdx p < A.length → (A.filter f)[(A.filter f).findIdx p]? = A[A.findIdx p]?) ∧ (A.findIdx p = A.length → (A.filter f).findIdx p = (A.filter f).length) := by
  intro A
  induction A with
  | nil => exact ⟨fun h => absurd h (Nat.not_lt_zero _), fun _ => rfl⟩
  | cons a t ih =>
    cases hp : p a with
    | true =>
      have hf := hpf a hp
      rw [List.filter_cons_of_pos hf]
      have e1 : (a :: t).findIdx p = 0 := by simp [List.findIdx_cons, hp]
      have e2 : (a :: t.filter f).findIdx p = 0 := by simp [List.findIdx_cons, hp]
      rw [e1, e2]
      exact ⟨fun _ => rfl, fun h => (by simp at h)⟩
    | false =>
      have e1 : (a :: t).findIdx p = t.findIdx p + 1 := by simp [List.findIdx_cons, hp]
      rw [e1]
      cases hf : f a with
      | true =>
        rw [List.filter_cons_of_pos hf]
        have e2 : (a :: t.filter f).findIdx p = (t.filter f).findIdx p + 1 := by simp [List.findIdx_cons, hp]
        rw [e2]
        refine ⟨fun h => ?_, fun h => ?_⟩
        · rw [List.getElem?_cons_succ, List.getElem?_cons_succ]
          exact ih.1 (by simpa using h)
        · rw [List.length_cons, ih.2 (by simpa using h)]
      | false =>
        rw [List.filter_cons_of_neg (by rw [hf]; decide)]
        refine ⟨fun h => ?_, fun h => ih.2 (by simpa using h)⟩
        rw [List.getElem?_cons_succ]
        exact ih.1 (by simpa using h)
theorem atI_found {w j : Nat} {a b : Int32} {A : List Cn} (hi : AIx A) (hj : j < A.length) (he : A[j].1 = w ∧ A[j].2.1 = a ∧ A[j].2.2.1 = b) (hno : ∀ i (h : i < A.length), i < j → ¬ (A[i].1 = w ∧ A[i].2.1 = a ∧ A[i].2.2.1 = b)) : A[j] = (w, a, b, atI w a b A) ∧ atI w a b A ≠ (atF w A).length ∧ atI w a b A ≠ 6 := by
  have hfi : A.findIdx (fun c => decide (c.1 = w ∧ c.2.1 = a ∧ c.2.2.1 = b)) = j := findIdx_at hj (fun i h hij => decide_eq_false (hno i h hij)) (decide_eq_true he)
  have h1 := (filter_find (p := fun c : Cn => decide (c.1 = w ∧ c.2.1 = a ∧ c.2.2.1 = b)) (f := fun c => decide (c.1 < 6) == decide (w < 6)) (fun c hc => by
    have := (of_decide_eq_true hc).1
    rw [this]
    exact beq_self_eq_true _) A).1 (by rw [hfi]; exact hj)
  rw [hfi, List.getElem?_eq_getElem hj] at h1
  have h2 : (atF w A)[atI w a b A]? = some A[j] := h1
  have h3 := hi.2 w _ _ h2
  have h4 : atI w a b A < (atF w A).length := (List.getElem?_eq_some_iff.mp h2).1
  have h5 := hi.1 w
  refine ⟨?_, by omega, by omega⟩
  rw [← h3, ← he.1, ← he.2.1, ← he.2.2]
theorem atI_none {w : Nat} {a b : Int32} {A : List Cn} (hno : ∀ i (h : i < A.length), ¬ (A[i].1 = w ∧ A[i].2.1 = a ∧ A[i].2.2.1 = b)) : atI w a b A = (atF w A).length := by
  have hfi : ¬ A.findIdx (fun c => decide (c.1 = w ∧ c.2.1 = a ∧ c.2.2.1 = b)) < A.length := findIdx_no (fun i h => decide_eq_false (hno i h))
  have hle : A.findIdx (fun c => decide (c.1 = w ∧ c.2.1 = a ∧ c.2.2.1 = b)) ≤ A.length := List.findIdx_le_length
  exact (filter_find (p := fun c : Cn => decide (c.1 = w ∧ c.2.1 = a ∧ c.2.2.1 = b)) (f := fun c => decide (c.1 < 6) == decide (w < 6)) (fun c hc => by
    have := (of_decide_eq_true hc).1
    rw [this]
    exact beq_self_eq_true _) A).2 (by omega)
theorem sp_ofCodes {G : GP} {y : HS} {q : Nat} {k : Cn} {post : Bool → HS → Prop} (h : atH G y q k) (hp : post (decide (k.1 < 6)) y) : wp_X15_isOfCodes G post y q := by
  obtain ⟨w, z, sp, sg, nb, h1, h2, h3, h4, h5, h6, h7⟩ := h
  refine ⟨_, ⟨_, h1, rfl⟩, fun hn => ?_, fun a ha => ?_⟩
  · rcases Nat.lt_or_ge k.1 6 with z | z
    · obtain ⟨q3, e3, -⟩ := h6 z
      rw [hn] at e3; cases e3
    · rw [decide_eq_false (by omega)] at hp; exact hp
  · rcases Nat.lt_or_ge k.1 6 with z | z
    · rw [decide_eq_true z] at hp; exact hp
    · rw [(h7 z).1] at ha; cases ha
theorem wi_inj : ∀ a, a ≤ 9 → ∀ b, b ≤ 9 → wd (wi a) = wd (wi b) → a = b := by decide
theorem atH.st {G : GP} {y : HS} {q : Nat} {k : Cn} (h : atH G y q k) : ∃ w sp sg nb, y.1 q = some (ob 13 [va_rf (some w), va_rf sp, .int sg, .int nb, .int (nI k.2.2.2)]) ∧ stW G y w (wd (wi k.1)) := by
  obtain ⟨w, z, sp, sg, nb, h1, h2, h3, -⟩ := h
  exact ⟨w, sp, sg, nb, h1, some z, _, _, h2, h3⟩
theorem bi_inj {a b : Bool} (h : bi a = bi b) : a = b := by
  cases a <;> cases b
  · rfl
  · exact absurd h (by decide)
  · exact absurd h (by decide)
  · rfl
theorem sp_isLike {G : GP} {y : HS} {q q2 : Nat} {k k2 : Cn} {post : Bool → HS → Prop} (hG : GK G) (hw : WF G y) (h : atH G y q k) (h2 : atH G y q2 k2) (hp : post (decide (k.1 = k2.1 ∧ k.2.1 = k2.2.1 ∧ k.2.2.1 = k2.2.2.1)) y) : wp_X15_isLike G post y q (some q2) := by
  obtain ⟨w, sp, sg, nb, c1, s1⟩ := h.st
  obtain ⟨w2, sp2, sg2, nb2, c2, s2⟩ := h2.st
  obtain ⟨z9, h9, zz9, d9, -⟩ := id s1
  refine ⟨_, ⟨_, c1, rfl⟩, q2, rfl, _, ⟨_, c2, rfl⟩, w, rfl, ⟨_, Or.inl d9⟩, st_equals hG hw s1 s2 ⟨fun hb => ?_, fun hb => ⟨⟨_, Or.inl c1⟩, sp_ofCodes h ⟨⟨_, Or.inl c2⟩, sp_ofCodes h2 ⟨fun hc => ⟨⟨_, Or.inl c1⟩, sp_ofCodes h ⟨fun hf => ?_, fun hf => ?_⟩⟩, fun hc => ?_⟩⟩⟩⟩⟩
  · rw [decide_eq_false (fun z => of_decide_eq_false hb (by rw [z.1]))] at hp
    exact hp
  · have k6 : 6 ≤ k.1 := by have := of_decide_eq_false hf; omega
    have e1 : k.1 = k2.1 := by
      obtain ⟨_, _, _, _, _, _, _, _, _, l1, -⟩ := h
      obtain ⟨_, _, _, _, _, _, _, _, _, l2, -⟩ := h2
      exact wi_inj _ l1 _ l2 (of_decide_eq_true hb)
    obtain ⟨w', z', sp', sg', nb', a1, -, -, -, -, -, a7⟩ := h
    obtain ⟨w2', z2', sp2', sg2', nb2', b1, -, -, -, -, -, b7⟩ := h2
    obtain ⟨-, x1, x2, x3⟩ := a7 k6
    obtain ⟨-, y1, y2, y3⟩ := b7 (by omega)
    refine ⟨sg', ⟨_, a1, rfl⟩, sg2', ⟨_, b1, rfl⟩, fun hne => ?_, fun he => ⟨nb', ⟨_, a1, rfl⟩, nb2', ⟨_, b1, rfl⟩, fun hne => ?_, fun he2 => ?_⟩⟩
    · rw [decide_eq_false (fun z => hne (by rw [x1, y1, z.2.1]))] at hp
      exact hp
    · rw [decide_eq_false (fun z => hne (by rw [x2, y2, z.2.2]))] at hp
      exact hp
    · have e2 : k.2.1 = k2.2.1 := by
        rw [x1, y1] at he
        rcases x3 with x3 | x3 <;> rcases y3 with y3 | y3
        · rw [x3, y3]
        · rw [x3, y3] at he; exact absurd he (by decide)
        · rw [x3, y3] at he; exact absurd he (by decide)
        · rw [x3, y3]
      rw [decide_eq_true ⟨e1, e2, by rw [← x2, ← y2]; exact he2⟩] at hp
      exact hp
  · have k6 : k.1 < 6 := of_decide_eq_true hf
    have e1 : k.1 = k2.1 := by
      obtain ⟨_, _, _, _, _, _, _, _, _, l1, -⟩ := h
      obtain ⟨_, _, _, _, _, _, _, _, _, l2, -⟩ := h2
      exact wi_inj _ l1 _ l2 (of_decide_eq_true hb)
    obtain ⟨w', z', sp', sg', nb', a1, -, -, -, -, a6, -⟩ := h
    obtain ⟨w2', z2', sp2', sg2', nb2', b1, -, -, -, -, b6, -⟩ := h2
    obtain ⟨p1, rfl, x1⟩ := a6 k6
    obtain ⟨p2, rfl, y1⟩ := b6 (by omega)
    refine ⟨_, ⟨_, a1, rfl⟩, _, ⟨_, b1, rfl⟩, p1, rfl, ⟨_, Or.inl x1⟩, _, ⟨_, x1, rfl⟩, p2, rfl, _, ⟨_, y1, rfl⟩, fun hne => ?_, fun he => ⟨_, ⟨_, x1, rfl⟩, _, ⟨_, y1, rfl⟩, fun hne => ?_, fun he2 => ?_⟩⟩
    · rw [decide_eq_false (fun z => hne z.2.1)] at hp
      exact hp
    · rw [decide_eq_false (fun z => hne z.2.2)] at hp
      exact hp
    · rw [decide_eq_true ⟨e1, he, he2⟩] at hp
      exact hp
  · rw [decide_eq_false (fun z => hc (by rw [z.1]))] at hp
    exact hp
