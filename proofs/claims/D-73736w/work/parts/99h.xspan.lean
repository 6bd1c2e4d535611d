/-! The component's reader: a span of codes -/
set_option maxRecDepth 100000
theorem pCd_sort {bs : List Nat} {s : PS} (h : isTok bs s.1) (d : Bool) : pCd bs 1 (if d then 0 else 1000) (if d then 999 else 1499) s = (if pK s ≠ 1 then er s 1 else if decide (1000 ≤ pNm s) ≠ !d then er s 2 else .ok (nI (pNm s), nxt bs s)) := by
  have hN : pNm s < 1500 := h.b.2.2.2.2.2.2.1
  unfold pCd
  by_cases hk : pK s ≠ 1
  · rw [if_pos hk, if_pos hk]
  · rw [if_neg hk, if_neg hk]
    cases d with
    | true =>
      by_cases hs : 1000 ≤ pNm s
      · rw [if_pos (show ¬ ((if true = true then 0 else 1000) ≤ pNm s ∧ pNm s ≤ (if true = true then 999 else 1499)) by simp; omega), if_pos (by rw [decide_eq_true hs]; decide)]
      · rw [if_neg (show ¬ ¬ ((if true = true then 0 else 1000) ≤ pNm s ∧ pNm s ≤ (if true = true then 999 else 1499)) by simp; omega), if_neg (by rw [decide_eq_false hs]; decide)]
    | false =>
      by_cases hs : 1000 ≤ pNm s
      · rw [if_neg (show ¬ ¬ ((if false = true then 0 else 1000) ≤ pNm s ∧ pNm s ≤ (if false = true then 999 else 1499)) by simp; omega), if_neg (by rw [decide_eq_true hs]; decide)]
      · rw [if_pos (show ¬ ((if false = true then 0 else 1000) ≤ pNm s ∧ pNm s ≤ (if false = true then 999 else 1499)) by simp; omega), if_pos (by rw [decide_eq_false hs]; decide)]
theorem mu_le {bs : List Nat} {s : PS} (h : isTok bs s.1) : mu bs s ≤ 5 * bs.length + 2 := by
  have h1 := rnk_le bs (pAt s)
  have h2 : pP s ≤ bs.length := h.b.2.1
  have h3 : pAt s ≤ pP s := h.b.1
  unfold mu mu2
  omega
/-- a new object of two numbers -/
theorem xl_span2 {G : GP} {y : HS} {q : Nat} {v0 v1 : Value} {a b : Int32} {post : HS → Prop} (hw : WF G y) (hq : y.1 q = some (ob 8 [v0, v1])) (hp : ∀ y', WF G y' → y'.1 q = some (ob 8 [.int a, .int b]) → (∀ c, c ≠ q → y'.1 c = y.1 c) → y'.2 = y.2 → post y') : wp_X10_init G post y q a b := by
  refine ⟨_, hq, by show 0 < 2; omega, fun y1 hy1 => ?_⟩
  have q1 : y1.1 q = some (ob 8 [.int a, v1]) := by rw [hy1, hput_at]; rfl
  refine ⟨_, q1, by show 1 < 2; omega, fun y3 hy3 => hp y3 ?_ ?_ (fun c hc => ?_) ?_⟩
  · rw [hy3]; refine WF.put ?_ q1; rw [hy1]; exact hw.put hq
  · rw [hy3, hput_at]; rfl
  · rw [hy3, hput_ne hc, hy1, hput_ne hc]
  · rw [hy3, hy1]; rfl
/-- the Reader after cells above have come or changed -/
theorem XP.up {G : GP} {y0 : HS} {n0 : Nat} {y y' : HS} {R e X tp op ln : Nat} {ch : Option Nat} {bs : List Nat} {s : PS} (h : XP G y0 n0 y R e X tp op ln ch bs s) (hw : WF G y') (h1 : ∀ a, a < y.2 → y'.1 a = y.1 a) (h2 : y.2 ≤ y'.2) : XP G y0 n0 y' R e X tp op ln ch bs s := by
  obtain ⟨⟨w, t, a1, a2, a3, tok, a4, a5, a6⟩, b1, b2, b3, b4⟩ := h
  have lX : X < y.2 := by obtain ⟨⟨fs, z⟩, _⟩ := t; exact w.lt z
  have lT : tp < y.2 := by obtain ⟨_, ⟨g, z, _⟩, _⟩ := t; exact w.lt z
  have k1 : ∀ a e, y.1 a = some e → y'.1 a = some e := fun a e he => (h1 a (w.lt he)).trans he
  refine ⟨⟨hw, t.same (h1 X lX) (h1 tp lT), a1, a2, a3, tok, k1 _ _ a4, ?_, a6⟩, b1, b2.st (fun a ha => h1 a (by omega)), b3, by omega⟩
  rcases a5 with z | ⟨z0, q, z1, z2⟩ | ⟨z0, q, z, hh, zz, z1, z2, ⟨q2, g, c1, c2, c3⟩, z4⟩ | ⟨z0, q, z1, z2⟩ | z
  · exact Or.inl z
  · exact Or.inr (Or.inl ⟨z0, q, z1, k1 _ _ z2⟩)
  · refine Or.inr (Or.inr (Or.inl ⟨z0, q, z, hh, zz, z1, k1 _ _ z2, ⟨q2, g, c1, ?_, c3⟩, z4⟩))
    rcases c2 with c2 | c2
    · exact Or.inl (k1 _ _ c2)
    · exact Or.inr c2
  · refine Or.inr (Or.inr (Or.inr (Or.inl ⟨z0, q, z1, ?_⟩)))
    rcases z2 with z2 | z2
    · exact Or.inl (k1 _ _ z2)
    · exact Or.inr z2
  · exact Or.inr (Or.inr (Or.inr (Or.inr z)))
theorem pCd_ok {bs : List Nat} {kd lo hi : Nat} {s : PS} {v : Int32 × PS} (h : pCd bs kd lo hi s = .ok v) : pK s = kd ∧ (lo ≤ pNm s ∧ pNm s ≤ hi) ∧ v = (nI (pNm s), nxt bs s) := by
  unfold pCd at h
  split at h
  · cases h
  · next h1 =>
    split at h
    · cases h
    · next h2 => cases h; exact ⟨Decidable.not_not.mp h1, Decidable.not_not.mp h2, rfl⟩
def dLo (d : Bool) : Nat := if d then 0 else 1000
def dHi (d : Bool) : Nat := if d then 999 else 1499
theorem sort_in {n : Nat} (hn : n < 1500) (d : Bool) : (dLo d ≤ n ∧ n ≤ dHi d) ↔ decide (1000 ≤ n) = !d := by
  cases d
  · show (1000 ≤ n ∧ n ≤ 1499) ↔ _
    rw [show (!false) = true from rfl, decide_eq_true_iff]
    omega
  · show (0 ≤ n ∧ n ≤ 999) ↔ _
    rw [show (!true) = false from rfl, decide_eq_false_iff_not]
    omega
/-- a span's parse by the component's own steps -/
theorem er_c {α β : Type} {s : PS} {k f : Nat} (h : (er s k : Except Nat α) = .error f) : (er s k : Except Nat β) = .error f := by
  cases h
  rfl
theorem pSpan_c1 {bs : List Nat} {d : Bool} {s : PS} {f : Nat} (ht : isTok bs s.1) (h : pCd bs 1 (dLo d) (dHi d) s = .error f) : pSpan bs (!d) false s = .error f := by
  have hN : pNm s < 1500 := ht.b.2.2.2.2.2.2.1
  unfold pCd at h
  split at h
  · next h1 => rw [pSpan_1 h1]; exact er_c h
  · next h1 =>
    split at h
    · next h2 =>
      rw [pSpan_2 (Decidable.not_not.mp h1) (fun w => h2 ((sort_in hN d).mpr w))]; exact er_c h
    · cases h
theorem pSpan_c2 {bs : List Nat} {d : Bool} {s : PS} {v : Int32 × PS} (ht : isTok bs s.1) (h : pCd bs 1 (dLo d) (dHi d) s = .ok v) (hw : isW (nxt bs s) 17 = false) : pSpan bs (!d) false s = .ok ((nI (pNm s), nI (pNm s)), nxt bs s) := by
  have hN : pNm s < 1500 := ht.b.2.2.2.2.2.2.1
  obtain ⟨h1, h2, _⟩ := pCd_ok h
  exact pSpan_4 h1 ((sort_in hN d).mp h2) hw
theorem pSpan_c3 {bs : List Nat} {d : Bool} {s : PS} {v : Int32 × PS} (ht : isTok bs s.1) (h : pCd bs 1 (dLo d) (dHi d) s = .ok v) (hw : isW (nxt bs s) 17 = true) : (∀ f, pCd bs 1 (pNm s) (dHi d) (nxt bs (nxt bs s)) = .error f → pSpan bs (!d) false s = .error f) ∧ ∀ u, pCd bs 1 (pNm s) (dHi d) (nxt bs (nxt bs s)) = .ok u → pSpan bs (!d) false s = .ok ((nI (pNm s), nI (pNm (nxt bs (nxt bs s)))), nxt bs (nxt bs (nxt bs s))) := by
  have hN : pNm s < 1500 := ht.b.2.2.2.2.2.2.1
  have hN2 : pNm (nxt bs (nxt bs s)) < 1500 := ht.nxt.nxt.b.2.2.2.2.2.2.1
  obtain ⟨h1, h2, _⟩ := pCd_ok h
  have hs := (sort_in hN d).mp h2
  have s2 := sort_in hN2 d
  refine ⟨fun f hf => ?_, fun u hu => ?_⟩
  · unfold pCd at hf
    split at hf
    · next k1 => rw [pSpan_5 h1 hs hw k1]; exact er_c hf
    · next k1 =>
      split at hf
      · next k2 =>
        rw [pSpan_6 h1 hs hw (Decidable.not_not.mp k1)]
        · exact er_c hf
        · by_cases hlt : pNm (nxt bs (nxt bs s)) < pNm s
          · exact Or.inr hlt
          · refine Or.inl (fun w => k2 ⟨by omega, (s2.mpr w).2⟩)
      · cases hf
  · obtain ⟨k1, k2, _⟩ := pCd_ok hu
    exact pSpan_7 h1 hs hw k1 (s2.mp ⟨by omega, k2.2⟩) k2.1
