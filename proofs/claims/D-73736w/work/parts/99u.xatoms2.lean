/-! The component's reader: atoms, walked -/
set_option maxRecDepth 100000
theorem mu_eq {bs : List Nat} {s s' : PS} (h : s'.1 = s.1) : mu bs s' = mu bs s := by
  show 2 * s'.1.2.2 + rnk bs s'.1.1 + 3 * s'.1.1 = 2 * s.1.2.2 + rnk bs s.1.1 + 3 * s.1.1
  rw [h]
/-- the token's String, hashed, is the told word of w -/
def wdA (G : GP) (y : HS) (q w : Nat) : Prop := ∃ z, y.1 q = some (ob 20 [va_rf (some z), .int 0, .int (whT.getD (wi w) 0), .int 0]) ∧ byR G y (some z) (wd (wi w))
theorem wdA.pk {G : GP} {y y' : HS} {q w : Nat} (h : wdA G y q w) (k : PKw y y') : wdA G y' q w := by
  obtain ⟨z, h1, h2⟩ := h
  exact ⟨z, k _ _ h1 (isB.kS (whT_ne _ (wi_lt _))), h2.pk k⟩
theorem wi_len : ∀ w, 3 ≤ w → w ≤ 9 → 3 ≤ (wd (wi w)).length := by
  intro w h1 h2
  rcases (by omega : w = 3 ∨ w = 4 ∨ w = 5 ∨ w = 6 ∨ w = 7 ∨ w = 8 ∨ w = 9) with rfl | rfl | rfl | rfl | rfl | rfl | rfl <;> decide
theorem px_ofCodes {G : GP} {y0 : HS} {n0 : Nat} {R e X tp ln B : Nat} {bs : List Nat} {tc cq nn op q w : Nat} {y : HS} {s : PS} {D : LM} {K : Nat → Nat} {g : EG} {gA : Nat → List Cn} {post : Option Nat → HS → Prop} {xp : Nat → Nat → HS → Prop} (hG : GK G) (hw3 : 3 ≤ w ∧ w < 6) (h : CX G y0 n0 R e X tp ln bs tc cq nn op y s D K g gA) (hs : isW s (wi w) = true) (hq : wdA G y q w) (hBo : ∀ v, pSpanC bs w s = .ok v → mu bs v.2 ≤ mu bs s + B + 6) (hBe : ∀ f, pSpanC bs w s = .error f → 5 * bs.length + 80 ≤ mu bs s + B)
    (hp : ∀ y' q v D' K' g' gA', pSpanC bs w s = .ok v → CX G y0 n0 R e X tp ln bs tc cq nn op y' v.2 D' K' g' gA' → CExt tc y D K g gA y' D' K' g' gA' → (∀ d, gCR g' d q v.1) → post (some q) y') (hx : ∀ f q y', pSpanC bs w s = .error f → XF G R ln f n0 y0 6 q y' → xp 6 q y') : wp_X6_ofCodes G B post xp y R (some q) := by
  have ht := h.1.1.2.1
  have c0 := cN_mu5 ht
  have hlw := isW_p ht.b hs
  have hl3 := wi_len w hw3.1 (by omega)
  have m1 := mu_le ht.nxt
  have e0 : pSpanC bs w s = bnd (pSpan bs (decide (w = 5)) false (nxt bs s)) (fun r => pAtom (pAt (nxt bs s)) w r.1.1 r.1.2 r.2) := rfl
  have bud : ∀ r, pSpan bs (decide (w = 5)) false (nxt bs s) = .ok r → mu bs r.2 ≤ mu bs s + B + 6 ∨ 5 * bs.length + 80 ≤ mu bs s + B := by
    intro r hr
    have e1 : pSpanC bs w s = pAtom (pAt (nxt bs s)) w r.1.1 r.1.2 r.2 := by rw [e0, hr]; rfl
    cases ha : pAtom (pAt (nxt bs s)) w r.1.1 r.1.2 r.2 with
    | error f => exact Or.inr (hBe f (e1.trans ha))
    | ok v =>
      have := hBo v (e1.trans ha)
      rw [mu_eq (pAtom_A ha).2.2.2.1] at this
      exact Or.inl this
  have p0 : cN bs (pP s) + 3 ≤ B := by
    cases hc : pSpan bs (decide (w = 5)) false (nxt bs s) with
    | error f => have := hBe f (by rw [e0, hc]; rfl); omega
    | ok r =>
      obtain ⟨z1, z2, -⟩ := pSpan_mu ht.nxt hc
      rcases bud r hc with z | z <;> omega
  refine ⟨fun y3 u x4 b5 r6 r7 r8 r9 r10 => u = cN bs (pP s) + 1 ∧ x4 = nI (pAt (nxt bs s)) ∧ b5 = !(decide (w = 5)) ∧ r6 = some R ∧ r7 = some q ∧ r10 = some R ∧ ∃ a, r8 = some a ∧ r9 = some a ∧ y.1 a = none ∧ n0 ≤ a ∧ PX G y0 n0 y3 R e X tp op ln (some cq) bs (nxt bs s) nn D K g gA ∧ y3.1 a = some (ob 13 [va_rf none, va_rf none, .int 0, .int 0, .int 0]) ∧ wdA G y3 q w ∧ Qs y y3, ?_, h.1.rdr, cN bs (pP s), by omega, px_nxt h.1 (Nat.le_refl _) (fun y27 P27 Q27 _ => ?_)⟩
  · rintro y3 u11 x4 b5 r6 r7 r8 r9 r10 ⟨rfl, rfl, rfl, rfl, rfl, rfl, a, rfl, rfl, ha0, han, P3, a3, W3, Q3⟩
    cases hc : pSpan bs (decide (w = 5)) false (nxt bs s) with
    | error f =>
      have eS : pSpanC bs w s = .error f := by rw [e0, hc]; rfl
      have hB := hBe f eS
      refine ⟨by omega, R, rfl, P3.rdr, B - (cN bs (pP s) + 1), by omega, px_span hG P3 (Bool.not_not _) (fun v hv => ?_) (fun _ _ => by omega) (fun y' q v hv => ?_) (fun f' q y' hf hF => ?_)⟩
      · rw [hc] at hv; cases hv
      · rw [hc] at hv; cases hv
      · rw [hc] at hf; cases hf; exact hx f q y' eS hF
    | ok r =>
      obtain ⟨t2, k2, p2⟩ := pSpan_mu ht.nxt hc
      have m2 := mu_le t2
      have e1 : pSpanC bs w s = pAtom (pAt (nxt bs s)) w r.1.1 r.1.2 r.2 := by rw [e0, hc]; rfl
      have b1 := bud r hc
      refine ⟨by omega, R, rfl, P3.rdr, mu bs r.2 - mu bs (nxt bs s), by rcases b1 with z | z <;> omega, px_span hG P3 (Bool.not_not _) (fun v hv => ?_) (fun f hf => ?_) (fun y13 sq v hv P13 Q13 hq13 c13 => ?_) (fun f' q y' hf hF => ?_)⟩
      · rw [hc] at hv; cases hv; omega
      · rw [hc] at hf; cases hf
      · rw [hc] at hv
        cases hv
        have CX13 := h.q P13 (by rw [p2]; rfl)
        have a13 := Q13.kO a3 (by decide) (by decide)
        have W13 := W3.pk Q13.pks.1
        refine ⟨P13.rdr, px_manyOf (w := w) CX13 (decide_eq_true hw3.2).symm ⟨a, rfl, xl_atom a13 (fun y21 a21 f21 n21 => ?_)⟩⟩
        obtain ⟨P21, F21⟩ := P13.pu a13 (by decide) han f21 a21 n21
        have CX21 := CX13.q P21 rfl
        have hne : ∀ b x, y13.1 b = some x → (∀ fs, x ≠ ob 13 fs) → y21.1 b = some x := fun b x hb hx => by
          rw [f21 b (fun e => by rw [e, a13] at hb; exact hx _ (Option.some.inj hb).symm)]; exact hb
        have s21 : y21.1 sq = some (ob 8 [.int r.1.1, .int r.1.2]) := hne _ _ c13 (fun _ => ob_ne (by decide))
        obtain ⟨z, w1, w2⟩ := W13
        have at21 : atH G y21 a (w, r.1.1, r.1.2, (atF w (pA r.2)).length) := by
          refine ⟨q, z, some sq, nI 0, nI 0, a21, hne _ _ w1 (fun _ => ob_ne (by decide)), ?_, hw3.1, by show w ≤ 9; omega, fun _ => ⟨sq, rfl, s21⟩, fun h6 => ?_⟩
          · obtain ⟨q5, g5, r1, r2, r3⟩ := w2
            refine ⟨q5, g5, r1, ?_, r3⟩
            rcases r2 with r2 | r2
            · exact Or.inl (hne _ _ r2 (fun _ => ai_ne_ob))
            · exact Or.inr r2
          · exact absurd h6 (by show ¬ 6 ≤ w; omega)
        have hb2 : mu bs r.2 - mu bs (nxt bs s) + (cN bs (pP s) + 1) + 2 ≤ B := by rcases b1 with z | z <;> omega
        refine ⟨R, rfl, P21.rdr, 2, by omega, px_known hG (by omega) CX21 at21 (fun _ _ => Nat.le_refl _) (fun _ _ => by omega) (fun y23 q9 v D' K' g' gA' ev CX23 X23 hC => ?_) (fun f q9 y9 hf hF => hx f q9 y9 (e1.trans hf) hF)⟩
        have X21 : CExt tc y D K g gA y21 D K g gA := ⟨(Q3.bs.tr Q13.bs).pu ha0 f21 (by omega), ((Q3.kf h.1.2.1.1).tr (Q13.kf P3.2.1.1)).tr F21, fun _ _ z _ => ⟨z, rfl⟩, fun _ _ _ z => z, rfl, rfl, rfl, rfl, fun _ _ => rfl⟩
        exact hp y23 q9 v D' K' g' gA' (e1.trans ev) CX23 (X21.tr X23) hC
      · rw [hc] at hf; cases hf
  · obtain ⟨tk, cR⟩ := P27.1.cell
    refine ⟨_, ⟨_, cR, rfl⟩, by omega, ?_⟩
    rintro a32 rfl y31 hy31
    have P31 : PX G y0 n0 y31 R e X tp op ln (some cq) bs (nxt bs s) nn D K g gA := by rw [hy31]; exact P27.nw
    have q31 : y31.1 y27.2 = some (ob 13 [va_rf none, va_rf none, .int 0, .int 0, .int 0]) := by rw [hy31, hnew_at]
    have Q31 : Qs y y31 := Q27.tr (by rw [hy31]; exact Qs.new P27.1.wf)
    have W31 := hq.pk Q31.pks.1
    have hn : y.1 y27.2 = none := h.1.1.wf.none Q27.2
    obtain ⟨z, w1, w2⟩ := id W31
    refine ⟨q, rfl, ⟨_, Or.inl w1⟩, xl_equals P31.1.wf hG (k := 6) (by decide) w1 w2 ⟨fun hb => ⟨by omega, rfl, ?_, rfl, rfl, rfl, _, rfl, rfl, hn, P27.1.2.2.2.2, P31, q31, W31, Q31⟩, fun hb => ⟨by omega, rfl, ?_, rfl, rfl, rfl, _, rfl, rfl, hn, P27.1.2.2.2.2, P31, q31, W31, Q31⟩⟩⟩
    · have : w = 5 := wi_inj w (by omega) 5 (by decide) (of_decide_eq_true hb)
      rw [decide_eq_true this]; rfl
    · have : w ≠ 5 := fun e => of_decide_eq_false hb (by rw [e]; rfl)
      rw [decide_eq_false this]; rfl
theorem px_compared {G : GP} {y0 : HS} {n0 : Nat} {R e X tp ln B : Nat} {bs : List Nat} {tc cq nn op q w : Nat} {y : HS} {s : PS} {D : LM} {K : Nat → Nat} {g : EG} {gA : Nat → List Cn} {post : Option Nat → HS → Prop} {xp : Nat → Nat → HS → Prop} (hG : GK G) (hw6 : 6 ≤ w ∧ w ≤ 9) (h : CX G y0 n0 R e X tp ln bs tc cq nn op y s D K g gA) (hs : isW s (wi w) = true) (hq : wdA G y q w) (hBo : ∀ v, pComp bs w s = .ok v → mu bs v.2 ≤ mu bs s + B + 6) (hBe : ∀ f, pComp bs w s = .error f → 5 * bs.length + 80 ≤ mu bs s + B)
    (hp : ∀ y' q v D' K' g' gA', pComp bs w s = .ok v → CX G y0 n0 R e X tp ln bs tc cq nn op y' v.2 D' K' g' gA' → CExt tc y D K g gA y' D' K' g' gA' → (∀ d, gCR g' d q v.1) → post (some q) y') (hx : ∀ f q y', pComp bs w s = .error f → XF G R ln f n0 y0 6 q y' → xp 6 q y') : wp_X6_compared G B post xp y R (some q) := by
  have ht := h.1.1.2.1
  have c0 := cN_mu5 ht
  have c1 := cN_mu5 ht.nxt
  have hlw := isW_p ht.b hs
  have hl3 := wi_len w (by omega) (by omega)
  have m1 := mu_le ht.nxt
  have m2 := mu_le ht.nxt.nxt
  have c2 := cN_mu5 ht.nxt.nxt
  have m3 := mu_le ht.nxt.nxt.nxt
  have e0 : (isS (nxt bs s) 60 = true ∨ isS (nxt bs s) 62 = true) → pComp bs w s = bnd (pNum bs 0 999 (nxt bs (nxt bs s))) (fun r => pAtom (pAt s) w (if isS (nxt bs s) 60 = true then 0 else nI 1) r.1 r.2) := by
    intro hz
    unfold pComp
    rw [if_neg]
    rintro ⟨z1, z2⟩
    rcases hz with hz | hz
    · rw [z1] at hz; cases hz
    · rw [z2] at hz; cases hz
  have bud : (isS (nxt bs s) 60 = true ∨ isS (nxt bs s) 62 = true) → ∀ r, pNum bs 0 999 (nxt bs (nxt bs s)) = .ok r → cN bs (pP (nxt bs (nxt bs s))) + mu bs (nxt bs (nxt bs s)) + 3 ≤ mu bs s + B + 6 ∨ 5 * bs.length + 80 ≤ mu bs s + B := by
    intro hz r hr
    obtain ⟨z1, z2, z3⟩ := pNum_mu ht.nxt.nxt hr
    have e1 : pComp bs w s = pAtom (pAt s) w (if isS (nxt bs s) 60 = true then 0 else nI 1) r.1 r.2 := by rw [e0 hz, hr]; rfl
    cases ha : pAtom (pAt s) w (if isS (nxt bs s) 60 = true then 0 else nI 1) r.1 r.2 with
    | error f => exact Or.inr (hBe f (e1.trans ha))
    | ok v =>
      have := hBo v (e1.trans ha)
      rw [mu_eq (pAtom_A ha).2.2.2.1] at this
      exact Or.inl (by omega)
  have p0 : cN bs (pP s) + cN bs (pP (nxt bs s)) + 1 ≤ B := by
    by_cases hz : isS (nxt bs s) 60 = true ∨ isS (nxt bs s) 62 = true
    · cases hc : pNum bs 0 999 (nxt bs (nxt bs s)) with
      | error f => have := hBe f (by rw [e0 hz, hc]; rfl); omega
      | ok r => rcases bud hz r hc with z | z <;> omega
    · have := hBe (8 * pAt (nxt bs s) + 1) (by
        unfold pComp
        rw [if_pos ⟨Bool.eq_false_iff.mpr (fun z => hz (Or.inl z)), Bool.eq_false_iff.mpr (fun z => hz (Or.inr z))⟩]
        rfl)
      omega
  refine ⟨fun y3 u x4 b5 r6 => u = cN bs (pP s) ∧ x4 = nI (pAt s) ∧ r6 = some R ∧ b5 = decide (isS (nxt bs s) 60 = true ∨ isS (nxt bs s) 62 = true) ∧ PX G y0 n0 y3 R e X tp op ln (some cq) bs (nxt bs s) nn D K g gA ∧ wdA G y3 q w ∧ Qs y y3, ?_, fun y3 u x4 r6 => u = cN bs (pP s) ∧ x4 = nI (pAt s) ∧ r6 = some R ∧ (isS (nxt bs s) 60 = true ∨ isS (nxt bs s) 62 = true) ∧ PX G y0 n0 y3 R e X tp op ln (some cq) bs (nxt bs s) nn D K g gA ∧ wdA G y3 q w ∧ Qs y y3, ?_, ?_⟩
  · rintro y3 u7 x4 b5 r6 ⟨rfl, rfl, rfl, rfl, P3, W3, Q3⟩
    refine ⟨by omega, R, rfl, P3.rdr, ?_⟩
    by_cases hz : isS (nxt bs s) 60 = true ∨ isS (nxt bs s) 62 = true
    · rw [decide_eq_true hz]
      have hk4 : pK (nxt bs s) = 4 := by rcases hz with z | z <;> exact (of_decide_eq_true z).1
      obtain ⟨tok, cR, -, tk⟩ := P3.1.tok
      have hcc : pNm (nxt bs s) = 60 ∨ pNm (nxt bs s) = 62 := by
        rcases hz with z | z
        · exact Or.inl (of_decide_eq_true z).2
        · exact Or.inr (of_decide_eq_true z).2
      rcases tk with ⟨z0, z⟩ | ⟨z0, z⟩ | ⟨z0, z⟩ | ⟨z0, z⟩ | ⟨z0, z1, z2⟩
      · exfalso; have : (nxt bs s).1.2.1.1 = 4 := hk4; omega
      · exfalso; have : (nxt bs s).1.2.1.1 = 4 := hk4; omega
      · exfalso; have : (nxt bs s).1.2.1.1 = 4 := hk4; omega
      · exfalso; have : (nxt bs s).1.2.1.1 = 4 := hk4; omega
      · have hr : rd G y3 (gC G (pNm (nxt bs s))) (ob 22 [.int (nI (pNm (nxt bs s)))]) := Or.inr (Or.inr (Or.inr (Or.inr (Or.inl ⟨_, z1, rfl, rfl⟩))))
        refine ⟨0, by omega, xp_must P3.1 (fun hb => by cases hb) (fun _ => ⟨tok, ⟨_, cR, rfl⟩, fun a ha => ?_, _, z2, ⟨_, hr⟩, _, ⟨_, hr, rfl⟩, (chv _ z1).2.1, P3.rdr, cN bs (pP (nxt bs s)), by omega, px_nxt P3 (Nat.le_refl _) (fun y17 P17 Q17 _ => ⟨by omega, ?_⟩)⟩) (fun hb => by cases hb)⟩
        · rw [z2] at ha; cases ha; exact ⟨_, hr⟩
        · rintro a21 rfl y20 hy20
          have P20 : PX G y0 n0 y20 R e X tp op ln (some cq) bs (nxt bs (nxt bs s)) nn D K g gA := by rw [hy20]; exact P17.nw
          have q20 : y20.1 y17.2 = some (ob 13 [va_rf none, va_rf none, .int 0, .int 0, .int 0]) := by rw [hy20, hnew_at]
          have Q20 : Qs y y20 := (Q3.tr Q17).tr (by rw [hy20]; exact Qs.new P17.1.wf)
          have hn : y.1 y17.2 = none := h.1.1.wf.none (Q3.tr Q17).2
          have n17 : n0 ≤ y17.2 := P17.1.2.2.2.2
          have W20 := hq.pk Q20.pks.1
          refine ⟨P20.rdr, ?_⟩
          cases hc : pNum bs 0 999 (nxt bs (nxt bs s)) with
          | error f =>
            have eS : pComp bs w s = .error f := by rw [e0 hz, hc]; rfl
            have hB := hBe f eS
            refine ⟨61, by omega, px_number P20 (by decide) (fun v hv => ?_) (fun _ _ => Nat.le_refl _) (fun y' hv => ?_) (fun f' q y' hf hF => ?_)⟩
            · rw [hc] at hv; cases hv
            · rw [hc] at hv; cases hv
            · rw [hc] at hf; cases hf; exact hx f q y' eS hF
          | ok r =>
            obtain ⟨t3, k3, er3⟩ := pNum_mu ht.nxt.nxt hc
            have e1 : pComp bs w s = pAtom (pAt s) w (if isS (nxt bs s) 60 = true then 0 else nI 1) (nI (pNm (nxt bs (nxt bs s)))) (nxt bs (nxt bs (nxt bs s))) := by rw [e0 hz, hc, er3]; rfl
            have b1 := bud hz r hc
            refine ⟨cN bs (pP (nxt bs (nxt bs s))), by rcases b1 with z | z <;> omega, px_number P20 (by decide) (fun _ _ => Nat.le_refl _) (fun f hf => ?_) (fun y22 e22 P22 Q22 => ?_) (fun f' q y' hf hF => ?_)⟩
            · rw [hc] at hf; cases hf
            · have CX22 := h.q P22 rfl
              have a22 := Q22.kO q20 (by decide) (by decide)
              have W22 := W20.pk Q22.pks.1
              refine ⟨P22.rdr, px_manyOf (w := w) CX22 (decide_eq_false (by omega)).symm (xl_atom a22 (fun y29 a29 f29 n29 => ?_))⟩
              obtain ⟨P29, F29⟩ := P22.pu a22 (by decide) n17 f29 a29 n29
              have CX29 := CX22.q P29 rfl
              have hne : ∀ b x, y22.1 b = some x → (∀ fs, x ≠ ob 13 fs) → y29.1 b = some x := fun b x hb hx => by
                rw [f29 b (fun e => by rw [e, a22] at hb; exact hx _ (Option.some.inj hb).symm)]; exact hb
              obtain ⟨z, w1, w2⟩ := W22
              have at29 : atH G y29 y17.2 (w, (if isS (nxt bs s) 60 = true then 0 else nI 1), nI (pNm (nxt bs (nxt bs s))), (atF w (pA (nxt bs (nxt bs (nxt bs s))))).length) := by
                refine ⟨q, z, none, nI (pNm (nxt bs s)), nI (pNm (nxt bs (nxt bs s))), a29, hne _ _ w1 (fun _ => ob_ne (by decide)), ?_, by show 3 ≤ w; omega, hw6.2, fun h6 => absurd h6 (by show ¬ w < 6; omega), fun _ => ⟨rfl, ?_, rfl, ?_⟩⟩
                · obtain ⟨q5, g5, r1, r2, r3⟩ := w2
                  refine ⟨q5, g5, r1, ?_, r3⟩
                  rcases r2 with r2 | r2
                  · exact Or.inl (hne _ _ r2 (fun _ => ai_ne_ob))
                  · exact Or.inr r2
                · show nI (pNm (nxt bs s)) = if (if isS (nxt bs s) 60 = true then (0 : Int32) else nI 1) = 0 then nI 60 else nI 62
                  by_cases h60 : isS (nxt bs s) 60 = true
                  · rw [if_pos h60, if_pos rfl, (of_decide_eq_true h60).2]
                  · rw [if_neg h60, if_neg (by decide)]
                    rcases hz with z | z
                    · exact absurd z h60
                    · rw [(of_decide_eq_true z).2]
                · show (if isS (nxt bs s) 60 = true then (0 : Int32) else nI 1) = 0 ∨ (if isS (nxt bs s) 60 = true then (0 : Int32) else nI 1) = nI 1
                  split
                  · exact Or.inl rfl
                  · exact Or.inr rfl
              refine ⟨P29.rdr, 2, by rcases b1 with z | z <;> omega, px_known hG (by omega) CX29 at29 (fun _ _ => Nat.le_refl _) (fun _ _ => by omega) (fun y23 q9 v D' K' g' gA' ev CX23 X23 hC => ?_) (fun f q9 y9 hf hF => hx f q9 y9 (e1.trans hf) hF)⟩
              have X29 : CExt tc y D K g gA y29 D K g gA := ⟨(Q20.bs.tr Q22.bs).pu hn f29 (by omega), ((Q20.kf h.1.2.1.1).tr (Q22.kf P20.2.1.1)).tr F29, fun _ _ z _ => ⟨z, rfl⟩, fun _ _ _ z => z, rfl, rfl, rfl, rfl, fun _ _ => rfl⟩
              exact hp y23 q9 v D' K' g' gA' (e1.trans ev) CX23 (X29.tr X23) hC
            · rw [hc] at hf; cases hf
    · rw [decide_eq_false hz]
      have eE : pComp bs w s = .error (8 * pAt (nxt bs s) + 1) := by
        unfold pComp
        rw [if_pos ⟨Bool.eq_false_iff.mpr (fun z => hz (Or.inl z)), Bool.eq_false_iff.mpr (fun z => hz (Or.inr z))⟩]
        rfl
      have hB := hBe _ eE
      exact ⟨1, by omega, xp_must P3.1 (fun _ => Nat.le_refl _) (fun hb => by cases hb) (fun _ q' y' hF => hx _ q' y' eE hF)⟩
  · rintro y36 u39 x37 r38 ⟨rfl, rfl, rfl, hz, P, W, Q⟩
    exact ⟨by omega, rfl, rfl, rfl, (decide_eq_true hz).symm, P, W, Q⟩
  · obtain ⟨tk, cR⟩ := h.1.1.cell
    refine ⟨_, ⟨_, cR, rfl⟩, h.1.rdr, cN bs (pP s), by omega, px_nxt h.1 (Nat.le_refl _) (fun y41 P41 Q41 _ => ⟨P41.rdr, xl_isSign P41.1.1 (by decide) ⟨fun hb => ⟨by omega, rfl, rfl, Or.inl hb, P41, hq.pk Q41.pks.1, Q41⟩, fun hb => ⟨P41.rdr, xl_isSign P41.1.1 (by decide) ⟨fun hb2 => ⟨by omega, rfl, rfl, ?_, P41, hq.pk Q41.pks.1, Q41⟩, fun hb2 => ⟨by omega, rfl, rfl, Or.inr hb2, P41, hq.pk Q41.pks.1, Q41⟩⟩⟩⟩⟩)⟩
    refine (decide_eq_false (fun z => ?_)).symm
    rcases z with z | z
    · rw [hb] at z; cases z
    · rw [hb2] at z; cases z
