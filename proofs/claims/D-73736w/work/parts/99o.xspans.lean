/-! The component's reader: rows of spans -/
set_option maxRecDepth 100000
theorem mu_nxt {bs : List Nat} {s : PS} (h : isTok bs s.1) : mu bs s + 3 * (pP s - pAt s) ≤ mu bs (nxt bs s) := by
  have := cN_mu5 h
  omega
theorem pSpan_mu {bs : List Nat} {o : Bool} {s : PS} {v : Sp × PS} (ht : isTok bs s.1) (h : pSpan bs o false s = .ok v) : isTok bs v.2.1 ∧ mu bs s + 9 ≤ mu bs v.2 ∧ v.2.2 = s.2 := by
  have c0 := mu_nxt ht
  have c1 := mu_nxt ht.nxt
  have c2 := mu_nxt ht.nxt.nxt
  unfold pSpan at h
  split at h
  · cases h
  · next h1 =>
    have hp3 : pP s = pAt s + 3 := ht.b.2.2.2.2.2.1 (Decidable.not_not.mp h1)
    split at h
    · cases h
    · split at h
      · cases h
      · split at h
        · cases h
          refine ⟨ht.nxt, ?_, rfl⟩
          show mu bs s + 9 ≤ mu bs (nxt bs s)
          omega
        · split at h
          · cases h
          · split at h
            · cases h
            · cases h
              refine ⟨ht.nxt.nxt.nxt, ?_, rfl⟩
              show mu bs s + 9 ≤ mu bs (nxt bs (nxt bs (nxt bs s)))
              omega
theorem pSpans_mu {bs : List Nat} : ∀ (f : Nat) (acc : List Sp) (s : PS) (v : List Sp × PS), isTok bs s.1 → acc.length ≤ 3 → pSpans bs f acc s = .ok v → isTok bs v.2.1 ∧ mu bs s + 9 ≤ mu bs v.2 ∧ v.2.2 = s.2 ∧ v.1.length ≤ 3 := by
  intro f
  induction f with
  | zero => intro acc s v ht ha h; cases h
  | succ f ih =>
    intro acc s v ht ha h
    by_cases h3 : acc.length = 3
    · exfalso
      have e : pSpans bs (f + 1) acc s = bnd (pSpan bs false (decide (acc.length = 3)) s) (fun r => if isS r.2 44 = true then pSpans bs f (acc ++ [r.1]) (nxt bs r.2) else .ok (acc ++ [r.1], r.2)) := rfl
      rw [e, decide_eq_true h3] at h
      cases hc : pSpan bs false true s with
      | error x => rw [hc] at h; cases h
      | ok r => exact absurd (pSpan_ok (sp := r.1) (s' := r.2) hc).2 (by decide)
    · have e : pSpans bs (f + 1) acc s = bnd (pSpan bs false (decide (acc.length = 3)) s) (fun r => if isS r.2 44 = true then pSpans bs f (acc ++ [r.1]) (nxt bs r.2) else .ok (acc ++ [r.1], r.2)) := rfl
      rw [e, decide_eq_false h3] at h
      cases hc : pSpan bs false false s with
      | error x => rw [hc] at h; cases h
      | ok r =>
        rw [hc] at h
        obtain ⟨t1, t2, t3⟩ := pSpan_mu ht hc
        have h' : (if isS r.2 44 = true then pSpans bs f (acc ++ [r.1]) (nxt bs r.2) else .ok (acc ++ [r.1], r.2)) = .ok v := h
        have hl : (acc ++ [r.1]).length ≤ 3 := by rw [List.length_append, List.length_singleton]; omega
        split at h'
        · obtain ⟨u1, u2, u3, u4⟩ := ih _ _ _ t1.nxt hl h'
          have := mu_nxt t1
          exact ⟨u1, by omega, u3.trans t3, u4⟩
        · cases h'
          exact ⟨t1, t2, t3, hl⟩
/-- steps that keep what is built -/
def Bs (y y' : HS) : Prop := PKs y y' ∧ KB y y' ∧ Cls y y' ∧ y.2 ≤ y'.2
theorem Bs.rf (y : HS) : Bs y y := ⟨PKs.rf y, KB.rf y, Cls.rf y, Nat.le_refl _⟩
theorem Bs.tr {y1 y2 y3 : HS} (h : Bs y1 y2) (k : Bs y2 y3) : Bs y1 y3 := ⟨h.1.tr k.1, h.2.1.tr k.2.1, h.2.2.1.tr k.2.2.1, Nat.le_trans h.2.2.2 k.2.2.2⟩
theorem Qs.bs {y y' : HS} (h : Qs y y') : Bs y y' := ⟨h.pks, h.kB, h.cls, h.2⟩
theorem Kp.bs {y y' : HS} (h : Kp y y') (hc : Cls y y') (hn : y.2 ≤ y'.2) : Bs y y' := ⟨h.pks, h.kB, hc, hn⟩
theorem up_up (D : LM) (a : Nat) (v w : Option (List (Option Nat))) : va_up (va_up D a v) a w = va_up D a w := by
  funext l
  by_cases e : l = a
  · rw [e, up_at, up_at]
  · rw [up_ne e, up_ne e, up_ne e]
theorem up_id {D : LM} {a : Nat} {v : Option (List (Option Nat))} (h : D a = v) : va_up D a v = D := by
  funext l
  by_cases e : l = a
  · rw [e, up_at, h]
  · rw [up_ne e]
theorem tk_in5 {G : GP} {y : HS} {tok : Option Nat} {t : Tk} (h : TkX G y tok t) : isIn G y tok 5 (decide (t.1 = 1)) ∧ isIn G y tok 21 (decide (t.1 = 3)) := by
  rcases h with ⟨h0, h1⟩ | ⟨h0, q, h1, h2⟩ | ⟨h0, q, z, hh, zz, h1, h2, h3, h4⟩ | ⟨h0, q, h1, h2⟩ | ⟨h0, h1, h2⟩
  · exact ⟨Or.inl ⟨h1, decide_eq_false (by omega)⟩, Or.inl ⟨h1, decide_eq_false (by omega)⟩⟩
  · exact ⟨Or.inr ⟨q, 5, _, h1, Or.inl h2, by decide, Or.inl ⟨rfl, decide_eq_true h0⟩⟩, Or.inr ⟨q, 5, _, h1, Or.inl h2, by decide, Or.inr ⟨by decide, by decide, decide_eq_false (by omega)⟩⟩⟩
  · exact ⟨Or.inr ⟨q, 20, _, h1, Or.inl h2, by decide, Or.inr ⟨by decide, by decide, decide_eq_false (by omega)⟩⟩, Or.inr ⟨q, 20, _, h1, Or.inl h2, by decide, Or.inr ⟨by decide, by decide, decide_eq_false (by omega)⟩⟩⟩
  · exact ⟨Or.inr ⟨q, 21, _, h1, h2, by decide, Or.inr ⟨by decide, by decide, decide_eq_false (by omega)⟩⟩, Or.inr ⟨q, 21, _, h1, h2, by decide, Or.inl ⟨rfl, decide_eq_true h0⟩⟩⟩
  · have hr : rd G y (gC G t.2.2) (ob 22 [.int (nI t.2.2)]) := Or.inr (Or.inr (Or.inr (Or.inr (Or.inl ⟨_, h1, rfl, rfl⟩))))
    exact ⟨Or.inr ⟨_, 22, _, h2, hr, by decide, Or.inr ⟨by decide, by decide, decide_eq_false (by omega)⟩⟩, Or.inr ⟨_, 22, _, h2, hr, by decide, Or.inr ⟨by decide, by decide, decide_eq_false (by omega)⟩⟩⟩
theorem px_span {G : GP} {y0 : HS} {n0 : Nat} {y : HS} {R e X tp op ln B : Nat} {ch : Option Nat} {bs : List Nat} {s : PS} {nn : Nat} {D : LM} {K : Nat → Nat} {g : EG} {gA : Nat → List Cn} {d o : Bool} {post : Option Nat → HS → Prop} {xp : Nat → Nat → HS → Prop} (hG : GK G) (h : PX G y0 n0 y R e X tp op ln ch bs s nn D K g gA) (ho : (!d) = o) (hBo : ∀ v, pSpan bs o false s = .ok v → mu bs v.2 ≤ mu bs s + B) (hBe : ∀ f, pSpan bs o false s = .error f → 5 * bs.length + 70 ≤ mu bs s + B)
    (hp : ∀ y' q v, pSpan bs o false s = .ok v → PX G y0 n0 y' R e X tp op ln ch bs v.2 nn D K g gA → Qs y y' → y.2 ≤ q → y'.1 q = some (ob 8 [.int v.1.1, .int v.1.2]) → post (some q) y') (hx : ∀ f q y', pSpan bs o false s = .error f → XF G R ln f n0 y0 6 q y' → xp 6 q y') : wp_X6_span G B post xp y R d := by
  subst ho
  refine xp_span hG h.1 hBo hBe (fun y' q sp s' e1 X1 F1 q1 c1 => ?_) hx
  have hs := (pSpan_ok e1).1
  have hQ := h.1.qfrr X1 F1
  exact hp y' q (sp, s') e1 (h.q X1 (by show s'.2.1 = s.2.1; rw [hs]) hQ) hQ q1 c1
theorem px_spans {G : GP} {y0 : HS} {n0 : Nat} {y : HS} {R e X tp op ln B T : Nat} {ch : Option Nat} {bs : List Nat} {s : PS} {nn : Nat} {D : LM} {K : Nat → Nat} {g : EG} {gA : Nat → List Cn} {post : HS → Prop} {xp : Nat → Nat → HS → Prop} (hG : GK G) (h : PX G y0 n0 y R e X tp op ln ch bs s nn D K g gA) (hT : D T = some []) (hK : 100 ≤ K T) (hBo : ∀ v, pSpans bs 4 [] s = .ok v → mu bs v.2 + 1 ≤ mu bs s + B) (hBe : ∀ f, pSpans bs 4 [] s = .error f → 5 * bs.length + 71 ≤ mu bs s + B)
    (hp : ∀ y' v xs, pSpans bs 4 [] s = .ok v → PX G y0 n0 y' R e X tp op ln ch bs v.2 nn (va_up D T (some xs)) K g gA → All2 (spR y') xs v.1 → Bs y y' → KF y D y' (va_up D T (some xs)) → post y') (hx : ∀ f q y', pSpans bs 4 [] s = .error f → XF G R ln f n0 y0 6 q y' → xp 6 q y') : wp_X6_spans G B post xp y R (some T) := by
  have ht := h.1.2.1
  have m0 := mu_le ht
  have e0 : pSpans bs 4 [] s = bnd (pSpan bs false false s) (fun r => if isS r.2 44 = true then pSpans bs 3 [r.1] (nxt bs r.2) else .ok ([r.1], r.2)) := rfl
  cases hc : pSpan bs false false s with
  | error f =>
    have eS : pSpans bs 4 [] s = .error f := by rw [e0, hc]; rfl
    have hB := hBe f eS
    refine ⟨h.rdr, B, by omega, px_span (o := false) hG h rfl (fun v hv => ?_) (fun _ _ => by omega) (fun y' q v hv => ?_) (fun f' q y' hf hF => ?_)⟩
    · rw [hc] at hv; cases hv
    · rw [hc] at hv; cases hv
    · rw [hc] at hf; cases hf; exact hx f q y' eS hF
  | ok v1 =>
    obtain ⟨t1, m1, p1⟩ := pSpan_mu ht hc
    have eS : pSpans bs 4 [] s = (if isS v1.2 44 = true then pSpans bs 3 [v1.1] (nxt bs v1.2) else .ok ([v1.1], v1.2)) := by rw [e0, hc]; rfl
    -- what is left of the budget
    have bud : ∀ (acc : List Sp) (s2 : PS), isTok bs s2.1 → acc.length ≤ 3 → pSpans bs 4 [] s = (if isS s2 44 = true then pSpans bs (4 - acc.length) acc (nxt bs s2) else .ok (acc, s2)) → mu bs s2 + 1 ≤ mu bs s + B ∧ (isS s2 44 = true → mu bs (nxt bs s2) + 1 ≤ mu bs s + B) := by
      intro acc s2 t2 ha e2
      have m2 := mu_le t2
      have m3 := mu_le t2.nxt
      have m4 := mu_nxt t2
      cases hr : pSpans bs 4 [] s with
      | error f => have := hBe f hr; exact ⟨by omega, fun _ => by omega⟩
      | ok v =>
        have hB := hBo v hr
        rw [hr] at e2
        split at e2
        · obtain ⟨u1, u2, u3, u4⟩ := pSpans_mu _ _ _ _ t2.nxt ha e2.symm
          exact ⟨by omega, fun _ => by omega⟩
        · next hno =>
          cases e2
          exact ⟨hB, fun z => absurd z hno⟩
    have b1 := (bud [v1.1] v1.2 t1 (by show 1 ≤ 3; omega) eS).1
    refine ⟨h.rdr, mu bs v1.2 - mu bs s, by omega, px_span (o := false) hG h rfl (fun v hv => ?_) (fun f hf => ?_) (fun y1 q v hv P1 Q1 hq c1 => ?_) (fun f' q y' hf hF => ?_)⟩
    · rw [hc] at hv; cases hv; omega
    · rw [hc] at hf; cases hf
    · rw [hc] at hv
      cases hv
      obtain ⟨fsT, hfT⟩ := P1.2.1.1.cell hT
      have sp1 : spR y1 (some q) v1.1 := ⟨q, rfl, c1⟩
      refine ⟨T, rfl, ⟨fsT, Or.inl hfT⟩, 1, by omega, px_add P1 hT hK (by decide) sp1.ok (by decide) (fun y6 P6 K6 C6 F6 n6 => ?_)⟩
      refine ⟨fun n y' u => ∃ (acc : List Sp) (s2 : PS) (xs : List (Option Nat)), 1 ≤ acc.length ∧ acc.length ≤ 3 ∧ n = 4 - acc.length ∧ u + mu bs s ≤ mu bs s2 + 1 ∧ pSpans bs 4 [] s = (if isS s2 44 = true then pSpans bs (4 - acc.length) acc (nxt bs s2) else .ok (acc, s2)) ∧ PX G y0 n0 y' R e X tp op ln ch bs s2 nn (va_up D T (some xs)) K g gA ∧ All2 (spR y') xs acc ∧ Bs y y' ∧ KF y D y' (va_up D T (some xs)), ⟨_, [v1.1], v1.2, [] ++ [some q], (by show 1 ≤ 1; omega), (by show 1 ≤ 3; omega), rfl, by omega, eS, P6, ?_, Q1.bs.tr (K6.bs C6 n6), (Q1.kf h.2.1.1).tr F6⟩, ?_⟩
      · exact All2.snoc All2.nil (sp1.kp K6)
      · rintro n11 y12 u15 ⟨acc, s2, xs, ha1, ha3, rfl, hu, e2, P2, A2, B2, F2⟩
        have t2 := P2.1.2.1
        obtain ⟨bu1, bu2⟩ := bud acc s2 t2 ha3 e2
        refine ⟨by omega, P2.rdr, xl_isSign P2.1.1 (by decide) ⟨fun hno => ?_, fun hyes => ?_⟩⟩
        · rw [if_neg (by rw [hno]; decide)] at e2
          exact hp y12 _ xs e2 P2 A2 B2 F2
        · rw [if_pos hyes] at e2
          have bu3 := bu2 hyes
          have c2 := cN_mu5 t2
          have hl := A2.1
          have m3 := mu_le t2.nxt
          refine ⟨fun y' u => u = u15 + cN bs (pP s2) ∧ PX G y0 n0 y' R e X tp op ln ch bs (nxt bs s2) nn (va_up D T (some xs)) K g gA ∧ All2 (spR y') xs acc ∧ Bs y y' ∧ KF y D y' (va_up D T (some xs)) ∧ ¬ (acc.length = 3 ∧ pK (nxt bs s2) = 1 ∧ ¬ 1000 ≤ pNm (nxt bs s2)), ?_, P2.rdr, cN bs (pP s2), by omega, px_nxt P2 (Nat.le_refl _) (fun y34 P34 Q34 _ => ?_)⟩
          · rintro y23 u24 ⟨rfl, P23, A23, B23, F23, hno3⟩
            have t3 := P23.1.2.1
            rw [pSpans_step ha3] at e2
            cases hc3 : pSpan bs false false (nxt bs s2) with
            | error f =>
              have eE : pSpans bs 4 [] s = .error f := by
                rw [e2]
                by_cases h3 : acc.length = 3
                · rw [decide_eq_true h3]
                  by_cases hk1 : pK (nxt bs s2) = 1
                  · have h1000 : 1000 ≤ pNm (nxt bs s2) := Decidable.not_not.mp (fun z => hno3 ⟨h3, hk1, z⟩)
                    have z2 : ¬ decide (1000 ≤ pNm (nxt bs s2)) = false := by rw [decide_eq_true h1000]; decide
                    rw [pSpan_2 hk1 z2] at hc3
                    rw [pSpan_2 hk1 z2, er_c hc3]
                    rfl
                  · rw [pSpan_1 hk1] at hc3
                    rw [pSpan_1 hk1, er_c hc3]
                    rfl
                · rw [decide_eq_false h3, hc3]
                  rfl
              have hB := hBe f eE
              refine ⟨by omega, P23.rdr, B - (u15 + cN bs (pP s2)), by omega, px_span (o := false) hG P23 rfl (fun v hv => ?_) (fun _ _ => by omega) (fun y' q v hv => ?_) (fun f' q y' hf hF => ?_)⟩
              · rw [hc3] at hv; cases hv
              · rw [hc3] at hv; cases hv
              · rw [hc3] at hf; cases hf; exact hx f q y' eE hF
            | ok v3 =>
              have h3 : ¬ acc.length = 3 := by
                intro h3
                obtain ⟨z1, z2⟩ : pK (nxt bs s2) = 1 ∧ ¬ 1000 ≤ pNm (nxt bs s2) := by
                  by_cases hk1 : pK (nxt bs s2) = 1
                  · refine ⟨hk1, fun z => ?_⟩
                    rw [pSpan_2 hk1 (by rw [decide_eq_true z]; decide)] at hc3
                    cases hc3
                  · rw [pSpan_1 hk1] at hc3
                    cases hc3
                exact hno3 ⟨h3, z1, z2⟩
              rw [decide_eq_false h3, hc3] at e2
              have e3 : pSpans bs 4 [] s = (if isS v3.2 44 = true then pSpans bs (4 - (acc ++ [v3.1]).length) (acc ++ [v3.1]) (nxt bs v3.2) else .ok (acc ++ [v3.1], v3.2)) := by
                rw [e2, List.length_append, List.length_singleton, show 4 - (acc.length + 1) = 3 - acc.length by omega]
                rfl
              obtain ⟨t4, m4, p4⟩ := pSpan_mu t3 hc3
              have hl4 : (acc ++ [v3.1]).length ≤ 3 := by rw [List.length_append, List.length_singleton]; omega
              have b4 := (bud _ _ t4 hl4 e3).1
              refine ⟨by omega, P23.rdr, mu bs v3.2 - mu bs (nxt bs s2), by omega, px_span (o := false) hG P23 rfl (fun v hv => ?_) (fun f hf => ?_) (fun y25 q v hv P25 Q25 hq25 c25 => ?_) (fun f' q y' hf hF => ?_)⟩
              · rw [hc3] at hv; cases hv; omega
              · rw [hc3] at hf; cases hf
              · rw [hc3] at hv
                cases hv
                have sp25 : spR y25 (some q) v3.1 := ⟨q, rfl, c25⟩
                have hT25 : va_up D T (some xs) T = some xs := up_at _ _ _
                obtain ⟨fs9, hf9⟩ := P25.2.1.1.cell hT25
                have hg : gco xs.length = 0 := by rw [hl]; unfold gco; rw [if_neg (by omega), if_pos (by omega)]
                refine ⟨⟨fs9, Or.inl hf9⟩, 0, by omega, px_add P25 hT25 hK (by omega) sp25.ok (by omega) (fun y29 P29 K29 C29 F29 n29 => ?_)⟩
                rw [up_up] at P29 F29
                refine ⟨4 - (acc ++ [v3.1]).length, by rw [List.length_append, List.length_singleton]; omega, acc ++ [v3.1], v3.2, xs ++ [some q], by rw [List.length_append, List.length_singleton]; omega, hl4, rfl, by omega, e3, P29, ?_, B23.tr (Q25.bs.tr (K29.bs C29 n29)), F23.tr ((Q25.kf P23.2.1.1).tr F29)⟩
                exact All2.snoc (All2.imp A23 (fun _ _ z => (z.pk Q25.pks.1).kp K29)) (sp25.kp K29)
              · rw [hc3] at hf; cases hf
          · have A34 : All2 (spR y34) xs acc := All2.imp A2 (fun _ _ z => z.pk Q34.pks.1)
            have B34 := B2.tr Q34.bs
            have F34 := F2.tr (Q34.kf P2.2.1.1)
            have hT34 : va_up D T (some xs) T = some xs := up_at _ _ _
            obtain ⟨fs9, hf9⟩ := P34.2.1.1.cell hT34
            refine ⟨⟨fs9, Or.inl hf9⟩, P34.2.1.1.size hT34 ?_⟩
            rw [hl]
            refine ⟨fun hne => ⟨rfl, P34, A34, B34, F34, fun z => hne (by rw [z.1])⟩, fun he => ?_⟩
            have h3 : acc.length = 3 := (nI_eq (by omega) (by omega)).mp he
            obtain ⟨tok, d1, d2, d3⟩ := P34.1.tok
            refine ⟨tok, ⟨_, d1, rfl⟩, _, (tk_in5 d3).1, fun hb => ⟨rfl, P34, A34, B34, F34, fun z => of_decide_eq_false hb z.2.1⟩, fun hb => ?_⟩
            have hk1 : pK (nxt bs s2) = 1 := of_decide_eq_true hb
            have hN : pNm (nxt bs s2) < 1500 := t2.nxt.b.2.2.2.2.2.2.1
            rcases d3 with ⟨z0, z⟩ | ⟨z0, q, z1, z2⟩ | ⟨z0, z⟩ | ⟨z0, z⟩ | ⟨z0, z⟩
            · exfalso; have : (nxt bs s2).1.2.1.1 = 1 := hk1; omega
            · refine ⟨fun a ha => ?_, q, z1, _, ⟨_, z2, rfl⟩, sp_isD ⟨fun hb2 => ⟨rfl, P34, A34, B34, F34, fun z => ?_⟩, fun hb2 => ?_⟩⟩
              · rw [z1] at ha; cases ha; exact ⟨_, Or.inl z2⟩
              · have : isD (nI (pNm (nxt bs s2))) = true := isD_iff.mpr (by rw [nI_toInt (by omega)]; omega)
                rw [hb2] at this
                cases this
              · have hd : ¬ 1000 ≤ pNm (nxt bs s2) := by
                  have := isD_iff.mp hb2
                  rw [nI_toInt (show pNm (nxt bs s2) < 2 ^ 31 by omega)] at this
                  omega
                have eE : pSpans bs 4 [] s = .error (8 * pAt (nxt bs s2) + 4) := by
                  rw [e2, pSpans_step ha3, decide_eq_true h3, pSpan_3 hk1 (decide_eq_false hd)]
                  rfl
                have hB := hBe _ eE
                refine ⟨P34.rdr, 1, by omega, xl_wrong P34.1.1 P34.1.2.2.1 P34.1.2.2.2.2 (Nat.le_refl _) (fun q9 y9 hF => ?_)⟩
                obtain ⟨w0, w1, w2, w3, w4, w5, hq9⟩ := hF.2.2.1
                exact ⟨q9, rfl, _, hq9, hx _ q9 y9 eE hF⟩
            · exfalso; have : (nxt bs s2).1.2.1.1 = 1 := hk1; omega
            · exfalso; have : (nxt bs s2).1.2.1.1 = 1 := hk1; omega
            · exfalso; have : (nxt bs s2).1.2.1.1 = 1 := hk1; omega
    · rw [hc] at hf; cases hf
