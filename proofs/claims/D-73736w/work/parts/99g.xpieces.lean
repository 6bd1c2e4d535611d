/-! The component's reader: signs, words, numbers, codes that must stand here -/
set_option maxRecDepth 100000
/-- the Reader, with what lies below n0 as it was -/
def XP (G : GP) (y0 : HS) (n0 : Nat) (y : HS) (R e X tp op ln : Nat) (ch : Option Nat) (bs : List Nat) (s : PS) : Prop := XL G n0 y R e X tp op ln ch bs s.1 ∧ isTok bs s.1 ∧ OLD y0 n0 y ∧ n0 ≤ R ∧ n0 ≤ y.2
theorem XP.nx {G : GP} {y0 : HS} {n0 : Nat} {y y' : HS} {R e X tp op ln : Nat} {ch : Option Nat} {bs : List Nat} {s s' : PS} (h : XP G y0 n0 y R e X tp op ln ch bs s) (hl : XL G n0 y' R e X tp op ln ch bs s'.1) (ht : isTok bs s'.1) (hf : FrR y y' R) : XP G y0 n0 y' R e X tp op ln ch bs s' := by
  obtain ⟨a1, a2, a3, a4, a5⟩ := h
  exact ⟨hl, ht, a3.st (fun a ha => hf.1 a (by omega) (by omega)), a4, Nat.le_trans a5 hf.2⟩
theorem xp_nxt {G : GP} {y0 : HS} {n0 : Nat} {y : HS} {R e X tp op ln B : Nat} {ch : Option Nat} {bs : List Nat} {s : PS} {post : HS → Prop} (h : XP G y0 n0 y R e X tp op ln ch bs s) (hB : cN bs (pP s) ≤ B) (hp : ∀ y', XP G y0 n0 y' R e X tp op ln ch bs (nxt bs s) → FrR y y' R → post y') : wp_X6_next G B post y R := xl_nxt h.1 h.2.2.2.2 hB (fun y' hl hf => hp y' (h.nx hl h.2.1.nxt hf) hf)
theorem xp_must {G : GP} {y0 : HS} {n0 : Nat} {y : HS} {R e X tp op ln B k : Nat} {ch : Option Nat} {bs : List Nat} {s : PS} {b : Bool} {post : HS → Prop} {xp : Nat → Nat → HS → Prop} (h : XP G y0 n0 y R e X tp op ln ch bs s) (hB : b = false → 1 ≤ B) (hp : b = true → post y) (hx : b = false → ∀ q y', XF G R ln (8 * pAt s + k) n0 y0 6 q y' → xp 6 q y') : wp_X6_must G B post xp y R b (nI k) := xl_must h.1 h.2.2.1 h.2.2.2.2 hB hp hx
theorem xp_sign {G : GP} {y0 : HS} {n0 : Nat} {y : HS} {R e X tp op ln B c : Nat} {ch : Option Nat} {bs : List Nat} {s : PS} {post : HS → Prop} {xp : Nat → Nat → HS → Prop} (h : XP G y0 n0 y R e X tp op ln ch bs s) (hc : c < 128) (hB : cN bs (pP s) + 1 ≤ B) (hp : ∀ y', pMustS bs c s = .ok (nxt bs s) → XP G y0 n0 y' R e X tp op ln ch bs (nxt bs s) → FrR y y' R → post y') (hx : ∀ f q y', pMustS bs c s = .error f → XF G R ln f n0 y0 6 q y' → xp 6 q y') : wp_X6_sign G B post xp y R (nI c) := by
  unfold pMustS at hp hx
  refine ⟨h.1.rd, xl_isSign h.1 hc ⟨h.1.rd, if isS s c = true then 0 else 1, by split <;> omega, xp_must h (fun hb => ?_) (fun hb => ⟨h.1.rd, cN bs (pP s), ?_, xp_nxt h (Nat.le_refl _) (fun y' h' f' => hp y' (if_pos hb) h' f')⟩) (fun hb q y' hF => hx _ q y' (if_neg (by rw [hb]; decide)) hF)⟩⟩
  · rw [if_neg (by rw [hb]; decide)]; exact Nat.le_refl _
  · rw [if_pos hb]; omega
theorem xp_word {G : GP} {y0 : HS} {n0 : Nat} {y : HS} {R e X tp op ln B k : Nat} {ch : Option Nat} {bs : List Nat} {s : PS} {post : HS → Prop} {xp : Nat → Nat → HS → Prop} (hG : GK G) (h : XP G y0 n0 y R e X tp op ln ch bs s) (hk : k < 20) (hB : cN bs (pP s) + 1 ≤ B) (hp : ∀ y', pMustW bs k s = .ok (nxt bs s) → XP G y0 n0 y' R e X tp op ln ch bs (nxt bs s) → FrR y y' R → post y') (hx : ∀ f q y', pMustW bs k s = .error f → XF G R ln f n0 y0 6 q y' → xp 6 q y') : wp_X6_word G B post xp y R (some (gK G k)) := by
  unfold pMustW at hp hx
  refine ⟨h.1.rd, xl_isWord hG h.1 hk ⟨h.1.rd, if isW s k = true then 0 else 1, by split <;> omega, xp_must h (fun hb => ?_) (fun hb => ⟨h.1.rd, cN bs (pP s), ?_, xp_nxt h (Nat.le_refl _) (fun y' h' f' => hp y' (if_pos hb) h' f')⟩) (fun hb q y' hF => hx _ q y' (if_neg (by rw [hb]; decide)) hF)⟩⟩
  · rw [if_neg (by rw [hb]; decide)]; exact Nat.le_refl _
  · rw [if_pos hb]; omega
/-- only the height of the heap has grown -/
theorem XP.grow {G : GP} {y0 : HS} {n0 : Nat} {y y' : HS} {R e X tp op ln : Nat} {ch : Option Nat} {bs : List Nat} {s : PS} (h : XP G y0 n0 y R e X tp op ln ch bs s) (h1 : y'.1 = y.1) (h2 : y.2 ≤ y'.2) : XP G y0 n0 y' R e X tp op ln ch bs s := by
  obtain ⟨⟨w, t, a1, a2, a3, tok, a4, a5, a6⟩, b1, b2, b3, b4⟩ := h
  refine ⟨⟨⟨fun a e he => ?_, w.2.1, by have := w.2.2; omega⟩, t.same (by rw [h1]) (by rw [h1]), a1, a2, a3, tok, by unfold rdO; rw [h1]; exact a4, ?_, a6⟩, b1, b2.st (fun a ha => by rw [h1]), b3, by omega⟩
  · rw [h1] at he
    have := w.1 a e he
    exact ⟨by omega, this.2⟩
  · rcases a5 with z | ⟨z0, q, z1, z2⟩ | ⟨z0, q, z, hh, zz, z1, z2, ⟨q2, g, c1, c2, c3⟩, z4⟩ | ⟨z0, q, z1, z2⟩ | z
    · exact Or.inl z
    · exact Or.inr (Or.inl ⟨z0, q, z1, by rw [h1]; exact z2⟩)
    · refine Or.inr (Or.inr (Or.inl ⟨z0, q, z, hh, zz, z1, by rw [h1]; exact z2, ⟨q2, g, c1, ?_, c3⟩, z4⟩))
      rcases c2 with c2 | c2
      · exact Or.inl (by rw [h1]; exact c2)
      · exact Or.inr c2
    · refine Or.inr (Or.inr (Or.inr (Or.inl ⟨z0, q, z1, ?_⟩)))
      rcases z2 with z2 | z2
      · exact Or.inl (by rw [h1]; exact z2)
      · exact Or.inr z2
    · exact Or.inr (Or.inr (Or.inr (Or.inr z)))
def pCd (bs : List Nat) (kd lo hi : Nat) (s : PS) : Except Nat (Int32 × PS) := if pK s ≠ kd then er s 1 else if ¬ (lo ≤ pNm s ∧ pNm s ≤ hi) then er s 2 else .ok (nI (pNm s), nxt bs s)
theorem pCd_num (bs : List Nat) (lo hi : Nat) (s : PS) : pCd bs 3 lo hi s = pNum bs lo hi s := rfl
theorem xp_code {G : GP} {y0 : HS} {n0 : Nat} {y : HS} {R e X tp op ln B lo hi : Nat} {ch : Option Nat} {bs : List Nat} {s : PS} {post : Int32 → HS → Prop} {xp : Nat → Nat → HS → Prop} (h : XP G y0 n0 y R e X tp op ln ch bs s) (hlh : lo ≤ hi ∧ hi < 2000) (hBo : ∀ v, pCd bs 1 lo hi s = .ok v → cN bs (pP s) ≤ B) (hBe : ∀ f, pCd bs 1 lo hi s = .error f → 61 ≤ B) (hp : ∀ y', pCd bs 1 lo hi s = .ok (nI (pNm s), nxt bs s) → XP G y0 n0 y' R e X tp op ln ch bs (nxt bs s) → FrR y y' R → post (nI (pNm s)) y') (hx : ∀ f q y', pCd bs 1 lo hi s = .error f → XF G R ln f n0 y0 6 q y' → xp 6 q y') : wp_X6_code G B post xp y R (nI lo) (nI hi) := by
  have hN : pNm s < 1500 := h.2.1.b.2.2.2.2.2.2.1
  have hX := h
  obtain ⟨⟨hw, ht, h1, h2, h3, tok, h4, h5, -⟩, -⟩ := h
  refine ⟨fun y' u r => pK s ≠ 1 ∧ u = 60 ∧ XP G y0 n0 y' R e X tp op ln ch bs s, ?_, tok, ⟨_, h4, rfl⟩, ?_⟩
  · rintro y3 u5 r4 ⟨hk, rfl, X3⟩
    have eP : pCd bs 1 lo hi s = er s 1 := if_pos hk
    have hB := hBe _ eP
    refine ⟨by omega, X3.1.rd, 1, by omega, xl_wrong X3.1 X3.2.2.1 X3.2.2.2.2 (Nat.le_refl _) (fun q y' hF => ?_)⟩
    obtain ⟨w0, w1, w2, w3, w4, w5, hq⟩ := hF.2.2.1
    exact ⟨q, rfl, _, hq, hx _ q y' eP hF⟩
  · have bad : pK s ≠ 1 → 0 + 60 ≤ B ∧ ∀ (q13 : Nat) (y14 : HS), y14.1 = y.1 → y.2 ≤ y14.2 → pK s ≠ 1 ∧ 0 + 60 = 60 ∧ XP G y0 n0 y14 R e X tp op ln ch bs s := by
      intro hk
      have hB := hBe _ (if_pos hk)
      exact ⟨by omega, fun q y14 e1 e2 => ⟨hk, rfl, hX.grow e1 e2⟩⟩
    rcases h5 with ⟨z0, z1⟩ | ⟨z0, q, z1, z2⟩ | ⟨z0, q, z, hh, zz, z1, z2, z3, z4⟩ | ⟨z0, q, z1, z2⟩ | ⟨z0, z1, z2⟩
    · have hk : pK s ≠ 1 := by show s.1.2.1.1 ≠ 1; omega
      exact Or.inl ⟨fun a ha => (by rw [z1] at ha; cases ha), Or.inl ⟨z1, (bad hk).1, (bad hk).2⟩⟩
    · have hk : pK s = 1 := z0
      refine Or.inl ⟨fun a ha => ?_, Or.inr ⟨q, z1, nI (pNm s), ⟨_, z2, rfl⟩, sp_within ?_⟩⟩
      · rw [z1] at ha; cases ha; exact ⟨_, Or.inl z2⟩
      · have eW : wthn (nI (pNm s)) (nI lo) (nI hi) = decide (lo ≤ pNm s ∧ pNm s ≤ hi) := by
          by_cases hin : lo ≤ pNm s ∧ pNm s ≤ hi
          · rw [decide_eq_true hin]
            exact wthn_iff.mpr ⟨by rw [nI_toInt (by omega), nI_toInt (by omega)]; omega, by rw [nI_toInt (by omega), nI_toInt (by omega)]; omega⟩
          · rw [decide_eq_false hin, Bool.eq_false_iff]
            intro w
            have := wthn_iff.mp w
            rw [nI_toInt (by omega), nI_toInt (by omega), nI_toInt (by omega)] at this
            omega
        rw [eW]
        by_cases hin : lo ≤ pNm s ∧ pNm s ≤ hi
        · have eP : pCd bs 1 lo hi s = .ok (nI (pNm s), nxt bs s) := by
            unfold pCd
            rw [if_neg (fun w => w hk), if_neg (fun w => w hin)]
          have hB := hBo _ eP
          refine ⟨hX.1.rd, 0, by omega, xp_must hX (fun hb => ?_) (fun _ => ⟨hX.1.rd, cN bs (pP s), by omega, xp_nxt hX (Nat.le_refl _) (fun y' h' f' => hp y' eP h' f')⟩) (fun hb => ?_)⟩
          · exact absurd hin (of_decide_eq_false hb)
          · exact absurd hin (of_decide_eq_false hb)
        · have eP : pCd bs 1 lo hi s = er s 2 := by
            unfold pCd
            rw [if_neg (fun w => w hk), if_pos hin]
          have hB := hBe _ eP
          refine ⟨hX.1.rd, 1, by omega, xp_must hX (fun _ => Nat.le_refl _) (fun hb => absurd (of_decide_eq_true hb) hin) (fun _ q' y' hF => ⟨rfl, hx _ q' y' eP hF⟩)⟩
    · have hk : pK s ≠ 1 := by show s.1.2.1.1 ≠ 1; omega
      exact Or.inr ⟨q, 20, _, z1, Or.inl z2, by decide, by decide, (bad hk).1, (bad hk).2⟩
    · have hk : pK s ≠ 1 := by show s.1.2.1.1 ≠ 1; omega
      exact Or.inr ⟨q, 21, _, z1, z2, by decide, by decide, (bad hk).1, (bad hk).2⟩
    · have hk : pK s ≠ 1 := by show s.1.2.1.1 ≠ 1; omega
      exact Or.inr ⟨_, 22, _, z2, Or.inr (Or.inr (Or.inr (Or.inr (Or.inl ⟨_, z1, rfl, rfl⟩)))), by decide, by decide, (bad hk).1, (bad hk).2⟩
theorem xp_number {G : GP} {y0 : HS} {n0 : Nat} {y : HS} {R e X tp op ln B lo hi : Nat} {ch : Option Nat} {bs : List Nat} {s : PS} {post : Int32 → HS → Prop} {xp : Nat → Nat → HS → Prop} (h : XP G y0 n0 y R e X tp op ln ch bs s) (hlh : lo ≤ hi ∧ hi < 2000) (hBo : ∀ v, pNum bs lo hi s = .ok v → cN bs (pP s) ≤ B) (hBe : ∀ f, pNum bs lo hi s = .error f → 61 ≤ B) (hp : ∀ y', pNum bs lo hi s = .ok (nI (pNm s), nxt bs s) → XP G y0 n0 y' R e X tp op ln ch bs (nxt bs s) → FrR y y' R → post (nI (pNm s)) y') (hx : ∀ f q y', pNum bs lo hi s = .error f → XF G R ln f n0 y0 6 q y' → xp 6 q y') : wp_X6_number G B post xp y R (nI lo) (nI hi) := by
  have hN : pNm s < 1500 := h.2.1.b.2.2.2.2.2.2.1
  have hX := h
  obtain ⟨⟨hw, ht, h1, h2, h3, tok, h4, h5, -⟩, -⟩ := h
  refine ⟨fun y' u r => pK s ≠ 3 ∧ u = 60 ∧ XP G y0 n0 y' R e X tp op ln ch bs s, ?_, tok, ⟨_, h4, rfl⟩, ?_⟩
  · rintro y3 u5 r4 ⟨hk, rfl, X3⟩
    have eP : pNum bs lo hi s = er s 1 := if_pos hk
    have hB := hBe _ eP
    refine ⟨by omega, X3.1.rd, 1, by omega, xl_wrong X3.1 X3.2.2.1 X3.2.2.2.2 (Nat.le_refl _) (fun q y' hF => ?_)⟩
    obtain ⟨w0, w1, w2, w3, w4, w5, hq⟩ := hF.2.2.1
    exact ⟨q, rfl, _, hq, hx _ q y' eP hF⟩
  · have bad : pK s ≠ 3 → 0 + 60 ≤ B ∧ ∀ (q13 : Nat) (y14 : HS), y14.1 = y.1 → y.2 ≤ y14.2 → pK s ≠ 3 ∧ 0 + 60 = 60 ∧ XP G y0 n0 y14 R e X tp op ln ch bs s := by
      intro hk
      have hB := hBe _ (if_pos hk)
      exact ⟨by omega, fun q y14 e1 e2 => ⟨hk, rfl, hX.grow e1 e2⟩⟩
    rcases h5 with ⟨z0, z1⟩ | ⟨z0, q, z1, z2⟩ | ⟨z0, q, z, hh, zz, z1, z2, z3, z4⟩ | ⟨z0, q, z1, z2⟩ | ⟨z0, z1, z2⟩
    · have hk : pK s ≠ 3 := by show s.1.2.1.1 ≠ 3; omega
      exact Or.inl ⟨fun a ha => (by rw [z1] at ha; cases ha), Or.inl ⟨z1, (bad hk).1, (bad hk).2⟩⟩
    · have hk : pK s ≠ 3 := by show s.1.2.1.1 ≠ 3; omega
      exact Or.inr ⟨q, 5, _, z1, Or.inl z2, by decide, by decide, (bad hk).1, (bad hk).2⟩
    · have hk : pK s ≠ 3 := by show s.1.2.1.1 ≠ 3; omega
      exact Or.inr ⟨q, 20, _, z1, Or.inl z2, by decide, by decide, (bad hk).1, (bad hk).2⟩
    · have hk : pK s = 3 := z0
      refine Or.inl ⟨fun a ha => ?_, Or.inr ⟨q, z1, ⟨_, z2⟩, nI (pNm s), ⟨_, z2, rfl⟩, sp_within ?_⟩⟩
      · rw [z1] at ha; cases ha; exact ⟨_, z2⟩
      · have eW : wthn (nI (pNm s)) (nI lo) (nI hi) = decide (lo ≤ pNm s ∧ pNm s ≤ hi) := by
          by_cases hin : lo ≤ pNm s ∧ pNm s ≤ hi
          · rw [decide_eq_true hin]
            exact wthn_iff.mpr ⟨by rw [nI_toInt (by omega), nI_toInt (by omega)]; omega, by rw [nI_toInt (by omega), nI_toInt (by omega)]; omega⟩
          · rw [decide_eq_false hin, Bool.eq_false_iff]
            intro w
            have := wthn_iff.mp w
            rw [nI_toInt (by omega), nI_toInt (by omega), nI_toInt (by omega)] at this
            omega
        rw [eW]
        by_cases hin : lo ≤ pNm s ∧ pNm s ≤ hi
        · have eP : pNum bs lo hi s = .ok (nI (pNm s), nxt bs s) := by
            unfold pNum
            rw [if_neg (fun w => w hk), if_neg (fun w => w hin)]
          have hB := hBo _ eP
          refine ⟨hX.1.rd, 0, by omega, xp_must hX (fun hb => ?_) (fun _ => ⟨hX.1.rd, cN bs (pP s), by omega, xp_nxt hX (Nat.le_refl _) (fun y' h' f' => hp y' eP h' f')⟩) (fun hb => ?_)⟩
          · exact absurd hin (of_decide_eq_false hb)
          · exact absurd hin (of_decide_eq_false hb)
        · have eP : pNum bs lo hi s = er s 2 := by
            unfold pNum
            rw [if_neg (fun w => w hk), if_pos hin]
          have hB := hBe _ eP
          refine ⟨hX.1.rd, 1, by omega, xp_must hX (fun _ => Nat.le_refl _) (fun hb => absurd (of_decide_eq_true hb) hin) (fun _ q' y' hF => ⟨rfl, hx _ q' y' eP hF⟩)⟩
    · have hk : pK s ≠ 3 := by show s.1.2.1.1 ≠ 3; omega
      exact Or.inr ⟨_, 22, _, z2, Or.inr (Or.inr (Or.inr (Or.inr (Or.inl ⟨_, z1, rfl, rfl⟩)))), by decide, by decide, (bad hk).1, (bad hk).2⟩
