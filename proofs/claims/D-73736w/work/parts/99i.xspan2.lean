/-! The component's reader: a span of codes, walked -/
set_option maxRecDepth 100000
theorem dHi_e : nI 1499 = nI (dHi false) ∧ nI 999 = nI (dHi true) := ⟨rfl, rfl⟩
/-- a Span's cell written: the Reader doesn't see it -/
theorem XP.sp {G : GP} {y0 : HS} {n0 : Nat} {y y' : HS} {R e X tp op ln q : Nat} {ch : Option Nat} {bs : List Nat} {s : PS} {fs : List Value} (h : XP G y0 n0 y R e X tp op ln ch bs s) (hw : WF G y') (hq : y.1 q = some (ob 8 fs)) (hq0 : n0 ≤ q) (h1 : ∀ a, a ≠ q → y'.1 a = y.1 a) (h2 : y'.2 = y.2) : XP G y0 n0 y' R e X tp op ln ch bs s := by
  obtain ⟨⟨w, t, a1, a2, a3, tok, a4, a5, a6⟩, b1, b2, b3, b4⟩ := h
  have k1 : ∀ a x, y.1 a = some x → (∀ fs, x ≠ ob 8 fs) → y'.1 a = some x := fun a x he hne => by
    rw [h1 a (fun z => hne fs (by rw [z, hq] at he; exact (Option.some.inj he).symm))]
    exact he
  have no : ∀ c (l : List Value), c ≠ 8 → ∀ fs, ob c l ≠ ob 8 fs := fun c l hc fs z => hc (by cases z; rfl)
  have noA : ∀ c n g fs, ai c n g ≠ ob 8 fs := fun c n g fs z => by cases z
  refine ⟨⟨hw, ?_, a1, a2, a3, tok, k1 _ _ a4 (no _ _ (by decide)), ?_, a6⟩, b1, b2.st (fun a ha => h1 a (by omega)), b3, by omega⟩
  · obtain ⟨⟨fs', z1⟩, ⟨g, z2, z3⟩, z4⟩ := t
    exact ⟨⟨fs', k1 _ _ z1 (no _ _ (by decide))⟩, ⟨g, k1 _ _ z2 (noA _ _ _), z3⟩, z4⟩
  · rcases a5 with z | ⟨z0, q, z1, z2⟩ | ⟨z0, q, z, hh, zz, z1, z2, ⟨q2, g, c1, c2, c3⟩, z4⟩ | ⟨z0, q, z1, z2⟩ | z
    · exact Or.inl z
    · exact Or.inr (Or.inl ⟨z0, q, z1, k1 _ _ z2 (no _ _ (by decide))⟩)
    · refine Or.inr (Or.inr (Or.inl ⟨z0, q, z, hh, zz, z1, k1 _ _ z2 (no _ _ (by decide)), ⟨q2, g, c1, ?_, c3⟩, z4⟩))
      rcases c2 with c2 | c2
      · exact Or.inl (k1 _ _ c2 (noA _ _ _))
      · exact Or.inr c2
    · refine Or.inr (Or.inr (Or.inr (Or.inl ⟨z0, q, z1, ?_⟩)))
      rcases z2 with z2 | z2
      · exact Or.inl (k1 _ _ z2 (no _ _ (by decide)))
      · exact Or.inr z2
    · exact Or.inr (Or.inr (Or.inr (Or.inr z)))
theorem xp_span {G : GP} {y0 : HS} {n0 : Nat} {y : HS} {R e X tp op ln B : Nat} {ch : Option Nat} {bs : List Nat} {s : PS} {d : Bool} {post : Option Nat → HS → Prop} {xp : Nat → Nat → HS → Prop} (hG : GK G) (h : XP G y0 n0 y R e X tp op ln ch bs s) (hBo : ∀ v, pSpan bs (!d) false s = .ok v → mu bs v.2 ≤ mu bs s + B) (hBe : ∀ f, pSpan bs (!d) false s = .error f → 5 * bs.length + 70 ≤ mu bs s + B)
    (hp : ∀ y' q sp s', pSpan bs (!d) false s = .ok (sp, s') → XP G y0 n0 y' R e X tp op ln ch bs s' → FrR y y' R → y.2 ≤ q → y'.1 q = some (ob 8 [.int sp.1, .int sp.2]) → post (some q) y') (hx : ∀ f q y', pSpan bs (!d) false s = .error f → XF G R ln f n0 y0 6 q y' → xp 6 q y') : wp_X6_span G B post xp y R d := by
  have ht := h.2.1
  have m0 := mu_le ht
  have c0 := cN_mu5 ht
  have c1 := cN_mu5 ht.nxt
  have c2 := cN_mu5 ht.nxt.nxt
  have m2 := mu_le ht.nxt.nxt
  have hN : pNm s < 1500 := ht.b.2.2.2.2.2.2.1
  -- budgets by the outcome of the first code
  have main : ∃ k18, 0 + k18 ≤ B ∧ wp_X6_code G k18 (fun x16 y15 => (∃ fs21, rd G y15 R (ob 4 fs21)) ∧ wp_X6_isWord G (fun b20 y19 => (b20 = true → ∃ J23 : HS → Nat → Int32 → Int32 → (Option Nat) → Int32 → (Option Nat) → (Option Nat) → Prop, (∀ (y25 : HS) (u32 : Nat) (x26 : Int32) (x27 : Int32) (r28 : Option Nat) (x29 : Int32) (r30 : Option Nat) (r31 : Option Nat), J23 y25 u32 x26 x27 r28 x29 r30 r31 → u32 ≤ B ∧ ∃ a33, r28 = some a33 ∧ (∃ fs36, rd G y25 a33 (ob 4 fs36)) ∧ ∃ k37, u32 + k37 ≤ B ∧ wp_X6_code G k37 (fun x35 y34 => ∃ a38, r30 = some a38 ∧ wp_X10_init G (fun y39 => post r31 y39) y34 a38 x29 x35) xp y25 a33 x27 x26) ∧ ((∃ fs41, rd G y19 R (ob 4 fs41)) ∧ ∃ k42, (0 + k18) + k42 ≤ B ∧ wp_X6_next G k42 (fun y40 => ((0 + k18) + k42) + 1 ≤ B ∧ ∀ a44, a44 = y40.2 → ∀ y43, y43 = hnew y40 (ob 8 [.int 0, .int 0]) → (d = false → J23 y43 ((((0 + k18) + k42) + 1)) (nI 1499) x16 (some R) x16 (some a44) (some a44)) ∧ (d = true → J23 y43 ((((0 + k18) + k42) + 1)) (nI 999) x16 (some R) x16 (some a44) (some a44))) y19 R)) ∧ (b20 = false → (0 + k18) + 1 ≤ B ∧ ∀ a48, a48 = y19.2 → ∀ y47, y47 = hnew y19 (ob 8 [.int 0, .int 0]) → wp_X10_init G (fun y49 => post (some a48) y49) y47 a48 x16 x16)) y15 R (some (gK G 17))) xp y R (nI (dLo d)) (nI (dHi d)) := by
    have hdl : dLo d ≤ dHi d ∧ dHi d < 2000 := by cases d <;> decide
    cases hc : pCd bs 1 (dLo d) (dHi d) s with
    | error f =>
      have eS := pSpan_c1 ht hc
      have hB := hBe f eS
      refine ⟨61, by omega, xp_code h hdl (fun v hv => ?_) (fun _ _ => Nat.le_refl _) (fun y' hv => ?_) (fun f' q y' hf hF => ?_)⟩
      · rw [hc] at hv; cases hv
      · rw [hc] at hv; cases hv
      · rw [hc] at hf; cases hf; exact hx f q y' eS hF
    | ok v =>
      obtain ⟨k1, k2, rfl⟩ := pCd_ok hc
      have hp3 : pP s = pAt s + 3 := ht.b.2.2.2.2.2.1 k1
      have hle : cN bs (pP s) ≤ B := by
        cases hw : isW (nxt bs s) 17 with
        | false =>
          have : mu bs (nxt bs s) ≤ mu bs s + B := hBo _ (pSpan_c2 ht hc hw)
          omega
        | true =>
          cases hc2 : pCd bs 1 (pNm s) (dHi d) (nxt bs (nxt bs s)) with
          | error f => have := hBe _ ((pSpan_c3 ht hc hw).1 f hc2); omega
          | ok u =>
            have : mu bs (nxt bs (nxt bs (nxt bs s))) ≤ mu bs s + B := hBo _ ((pSpan_c3 ht hc hw).2 u hc2)
            omega
      refine ⟨cN bs (pP s), by omega, xp_code h hdl (fun _ _ => Nat.le_refl _) (fun f hf => ?_) (fun y15 _ X15 F15 => ⟨X15.1.rd, xl_isWord hG X15.1 (by omega) ⟨fun hw => ?_, fun hw => ?_⟩⟩) (fun f q y' hf _ => ?_)⟩
      · rw [hc] at hf; cases hf
      · have l17 := isW_p ht.nxt.b hw
        have l2 : (wd 17).length = 2 := by decide
        refine ⟨fun y' u x26 x27 r28 x29 r30 r31 => u = cN bs (pP s) + cN bs (pP (nxt bs s)) + 1 ∧ x26 = nI (dHi d) ∧ x27 = nI (pNm s) ∧ r28 = some R ∧ x29 = nI (pNm s) ∧ r31 = r30 ∧ ∃ q, r30 = some q ∧ y.2 ≤ q ∧ q ≠ R ∧ XP G y0 n0 y' R e X tp op ln ch bs (nxt bs (nxt bs s)) ∧ FrR y y' R ∧ y'.1 q = some (ob 8 [.int 0, .int 0]), ?_, X15.1.rd, cN bs (pP (nxt bs s)), ?_, ?_⟩
        · rintro y25 u32 x26 x27 r28 x29 r30 r31 ⟨rfl, rfl, rfl, rfl, rfl, rfl, q, rfl, hq1, hqR, X25, F25, hq25⟩
          cases hc2 : pCd bs 1 (pNm s) (dHi d) (nxt bs (nxt bs s)) with
          | error f =>
            have eS := (pSpan_c3 ht hc hw).1 f hc2
            have hB := hBe _ eS
            refine ⟨by omega, R, rfl, X25.1.rd, 61, by omega, xp_code X25 ⟨by omega, hdl.2⟩ (fun v hv => ?_) (fun _ _ => Nat.le_refl _) (fun y' hv => ?_) (fun f' q' y' hf hF => ?_)⟩
            · rw [hc2] at hv; cases hv
            · rw [hc2] at hv; cases hv
            · rw [hc2] at hf; cases hf; exact hx f q' y' eS hF
          | ok u =>
            have eS := (pSpan_c3 ht hc hw).2 u hc2
            have hB : mu bs (nxt bs (nxt bs (nxt bs s))) ≤ mu bs s + B := hBo _ eS
            refine ⟨by omega, R, rfl, X25.1.rd, cN bs (pP (nxt bs (nxt bs s))), by omega, xp_code X25 ⟨by omega, hdl.2⟩ (fun _ _ => Nat.le_refl _) (fun f hf => ?_) (fun y34 _ X34 F34 => ?_) (fun f q' y' hf _ => ?_)⟩
            · rw [hc2] at hf; cases hf
            · have lq := X25.1.1.lt hq25
              have hq34 : y34.1 q = some (ob 8 [.int 0, .int 0]) := (F34.1 q lq hqR).trans hq25
              have F39 : FrR y y34 R := F25.tr F34
              refine ⟨q, rfl, xl_span2 X34.1.1 hq34 (fun y39 w39 q39 f39 n39 => hp y39 q _ _ eS ?_ ⟨fun a ha hne => (f39 a (by omega)).trans (F39.1 a ha hne), by rw [n39]; exact F39.2⟩ hq1 q39)⟩
              exact X34.sp w39 hq34 (Nat.le_trans h.2.2.2.2 hq1) f39 n39
            · rw [hc2] at hf; cases hf
        · cases hc2 : pCd bs 1 (pNm s) (dHi d) (nxt bs (nxt bs s)) with
          | error f => have := hBe _ ((pSpan_c3 ht hc hw).1 f hc2); omega
          | ok u =>
            have : mu bs (nxt bs (nxt bs (nxt bs s))) ≤ mu bs s + B := hBo _ ((pSpan_c3 ht hc hw).2 u hc2)
            omega
        · refine xp_nxt X15 (Nat.le_refl _) (fun y40 X40 F40 => ⟨?_, ?_⟩)
          · cases hc2 : pCd bs 1 (pNm s) (dHi d) (nxt bs (nxt bs s)) with
            | error f => have := hBe _ ((pSpan_c3 ht hc hw).1 f hc2); omega
            | ok u =>
              have : mu bs (nxt bs (nxt bs (nxt bs s))) ≤ mu bs s + B := hBo _ ((pSpan_c3 ht hc hw).2 u hc2)
              omega
          · rintro a44 rfl y43 hy43
            have w43 : WF G y43 := by rw [hy43]; exact X40.1.1.new
            have F2 := F15.tr F40
            have X43 := X40.up w43 (fun a ha => by rw [hy43, hnew_ne (by omega)]) (by rw [hy43, hnew_2]; omega)
            have F43 : FrR y y43 R := ⟨fun a ha hne => by rw [hy43, hnew_ne (by have := F2.2; omega)]; exact F2.1 a ha hne, by rw [hy43, hnew_2]; have := F2.2; omega⟩
            have q43 : y43.1 y40.2 = some (ob 8 [.int 0, .int 0]) := by rw [hy43, hnew_at]
            have hRl : y40.2 ≠ R := by
              obtain ⟨⟨w, _, _, _, _, tk, z, _, _⟩, _⟩ := X40
              have := w.lt z
              omega
            exact ⟨fun z => ⟨by omega, by rw [z]; rfl, rfl, rfl, rfl, rfl, _, rfl, F2.2, hRl, X43, F43, q43⟩, fun z => ⟨by omega, by rw [z]; rfl, rfl, rfl, rfl, rfl, _, rfl, F2.2, hRl, X43, F43, q43⟩⟩
      · have eS := pSpan_c2 ht hc hw
        have hB : mu bs (nxt bs s) ≤ mu bs s + B := hBo _ eS
        refine ⟨by omega, ?_⟩
        rintro a48 rfl y47 hy47
        have w47 : WF G y47 := by rw [hy47]; exact X15.1.1.new
        have X47 := X15.up w47 (fun a ha => by rw [hy47, hnew_ne (by omega)]) (by rw [hy47, hnew_2]; omega)
        have q47 : y47.1 y15.2 = some (ob 8 [.int 0, .int 0]) := by rw [hy47, hnew_at]
        refine xl_span2 w47 q47 (fun y49 w49 q49 f49 n49 => hp y49 _ _ _ eS (X47.sp w49 q47 X15.2.2.2.2 f49 n49) ⟨fun a ha hne => ?_, ?_⟩ F15.2 q49)
        · have := F15.2
          rw [f49 a (by omega), hy47, hnew_ne (by omega)]
          exact F15.1 a ha hne
        · have := F15.2
          rw [n49, hy47, hnew_2]; omega
      · rw [hc] at hf; cases hf
  obtain ⟨k18, hk18, hcode⟩ := main
  refine ⟨fun y' u x4 r5 => y' = y ∧ u = 0 ∧ x4 = nI (dLo d) ∧ r5 = some R, ?_, fun z => ⟨rfl, rfl, by rw [z]; rfl, rfl⟩, fun z => ⟨rfl, rfl, by rw [z]; rfl, rfl⟩⟩
  rintro y3 u6 x4 r5 ⟨rfl, rfl, rfl, rfl⟩
  refine ⟨Nat.zero_le _, fun y' u x10 x11 r12 => y' = y3 ∧ u = 0 ∧ x10 = nI (dHi d) ∧ x11 = nI (dLo d) ∧ r12 = some R, ?_, fun z => ⟨rfl, rfl, by rw [z]; rfl, rfl, rfl⟩, fun z => ⟨rfl, rfl, by rw [z]; rfl, rfl, rfl⟩⟩
  rintro y9 u13 x10 x11 r12 ⟨rfl, rfl, rfl, rfl, rfl⟩
  exact ⟨Nat.zero_le _, R, rfl, h.1.rd, k18, hk18, hcode⟩
