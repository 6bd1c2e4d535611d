/-! The component's reader: chapters -/
set_option maxRecDepth 100000
theorem px_chinit {G : GP} {y0 : HS} {n0 : Nat} {y : HS} {R e X tp op ln B a : Nat} {ch p : Option Nat} {bs : List Nat} {s : PS} {nn : Nat} {D : LM} {K : Nat → Nat} {g : EG} {gA : Nat → List Cn} {post : HS → Prop} (h : PX G y0 n0 y R e X tp op ln ch bs s nn D K g gA) (hq : y.1 a = some (ob 7 [va_rf none, va_rf none, va_rf none, va_rf none, va_rf none])) (hn : n0 ≤ a) (hB : 3 ≤ B)
    (hp : ∀ y' l la ll, l ≠ la → l ≠ ll → la ≠ ll → D l = none → D la = none → D ll = none → PX G y0 n0 y' R e X tp op ln ch bs s nn (va_up (va_up (va_up D l (some [])) la (some [])) ll (some [])) (lb (lb (lb K l 100) la 100) ll 100) g gA → y'.1 a = some (ob 7 [va_rf p, va_rf (some l), va_rf none, va_rf (some la), va_rf (some ll)]) → (∀ b, b < y.2 → b ≠ a → y'.1 b = y.1 b) → post y') : wp_X9_init G B post y a p := by
  have la0 := h.1.wf.lt hq
  have n1 : n0 ≤ y.2 := h.1.2.2.2.2
  have f1 : D y.2 = none := h.2.1.1.fresh
  refine ⟨by omega, ?_⟩
  rintro a2 rfl y1 hy1
  have P1 : PX G y0 n0 y1 R e X tp op ln ch bs s nn D K g gA := by rw [hy1]; exact h.nw
  have q1 : y1.1 a = some (ob 7 [va_rf none, va_rf none, va_rf none, va_rf none, va_rf none]) := by rw [hy1, hnew_ne (by omega)]; exact hq
  have z1 : y1.2 = y.2 + 1 := by rw [hy1]; rfl
  refine px_list P1 f1 n1 (by rw [hy1, hnew_at]) (fun y3 P3 o3 z3 k3 => ?_)
  have q3 := (o3 a (by omega)).trans q1
  refine ⟨_, q3, by show 1 < 5; omega, fun y4 hy4 => ?_⟩
  have q4 : y4.1 a = some (ob 7 [va_rf none, va_rf (some y.2), va_rf none, va_rf none, va_rf none]) := by rw [hy4, hput_at]; rfl
  obtain ⟨P4, -⟩ := P3.pu q3 (by decide) hn (fun b hb => by rw [hy4, hput_ne hb]) q4 (by rw [hy4]; rfl)
  have z4 : y4.2 = y.2 + 1 := by rw [hy4, hput_2]; omega
  refine ⟨by omega, ?_⟩
  rintro a7 rfl y6 hy6
  have P6 : PX G y0 n0 y6 R e X tp op ln ch bs s nn (va_up D y.2 (some [])) (lb K y.2 100) g gA := by rw [hy6]; exact P4.nw
  have q6 : y6.1 a = some (ob 7 [va_rf none, va_rf (some y.2), va_rf none, va_rf none, va_rf none]) := by rw [hy6, hnew_ne (by omega)]; exact q4
  have f6 : va_up D y.2 (some []) y4.2 = none := P4.2.1.1.fresh
  have z6 : y6.2 = y.2 + 2 := by rw [hy6, hnew_2]; omega
  refine px_list P6 f6 (by omega) (by rw [hy6, hnew_at]) (fun y8 P8 o8 z8 k8 => ?_)
  have q8 := (o8 a (by omega)).trans q6
  refine ⟨_, q8, by show 3 < 5; omega, fun y9 hy9 => ?_⟩
  have q9 : y9.1 a = some (ob 7 [va_rf none, va_rf (some y.2), va_rf none, va_rf (some y4.2), va_rf none]) := by rw [hy9, hput_at]; rfl
  obtain ⟨P9, -⟩ := P8.pu q8 (by decide) hn (fun b hb => by rw [hy9, hput_ne hb]) q9 (by rw [hy9]; rfl)
  have z9 : y9.2 = y.2 + 2 := by rw [hy9, hput_2]; omega
  refine ⟨by omega, ?_⟩
  rintro a12 rfl y11 hy11
  have P11 : PX G y0 n0 y11 R e X tp op ln ch bs s nn (va_up (va_up D y.2 (some [])) y4.2 (some [])) (lb (lb K y.2 100) y4.2 100) g gA := by rw [hy11]; exact P9.nw
  have q11 : y11.1 a = some (ob 7 [va_rf none, va_rf (some y.2), va_rf none, va_rf (some y4.2), va_rf none]) := by rw [hy11, hnew_ne (by omega)]; exact q9
  have f11 : va_up (va_up D y.2 (some [])) y4.2 (some []) y9.2 = none := P9.2.1.1.fresh
  refine px_list P11 f11 (by omega) (by rw [hy11, hnew_at]) (fun y13 P13 o13 z13 k13 => ?_)
  have q13 := (o13 a (by omega)).trans q11
  refine ⟨_, q13, by show 4 < 5; omega, fun y14 hy14 => ?_⟩
  have q14 : y14.1 a = some (ob 7 [va_rf none, va_rf (some y.2), va_rf none, va_rf (some y4.2), va_rf (some y9.2)]) := by rw [hy14, hput_at]; rfl
  refine ⟨_, q14, by show 0 < 5; omega, fun y16 hy16 => ?_⟩
  have q16 : y16.1 a = some (ob 7 [va_rf p, va_rf (some y.2), va_rf none, va_rf (some y4.2), va_rf (some y9.2)]) := by rw [hy16, hput_at]; rfl
  obtain ⟨P16, -⟩ := P13.pu q13 (by decide) hn (fun b hb => by rw [hy16, hput_ne hb, hy14, hput_ne hb]) q16 (by rw [hy16, hy14]; rfl)
  have d1 : D y4.2 = none := by rw [up_ne (by omega)] at f6; exact f6
  have d2 : D y9.2 = none := by rw [up_ne (by omega), up_ne (by omega)] at f11; exact f11
  refine hp y16 y.2 y4.2 y9.2 (by omega) (by omega) (by omega) f1 d1 d2 P16 q16 (fun b hb hne => ?_)
  rw [hy16, hput_ne hne, hy14, hput_ne hne, o13 b (by omega), hy11, hnew_ne (by omega), hy9, hput_ne hne, o8 b (by omega), hy6, hnew_ne (by omega), hy4, hput_ne hne, o3 b (by omega), hy1, hnew_ne (by omega)]
theorem app_last {α : Type} (l : List α) (c : α) (h : l.length < (l ++ [c]).length) : (l ++ [c])[l.length]'h = c := by simp
theorem PE.addCh {G : GP} {y y' : HS} {D D' : LM} {K K' : Nat → Nat} {e : Nat} {E : Ed} {nn : Nat} {g : EG} {gA : Nat → List Cn} {a : Nat} {c : Ch} (h : PE G y D K e E nn g gA) (ks : PKs y y') (kf : KF y D y' D') (kd : KD 1 D K D' K') (hlc : D' (gLs g).1 = some ((gXc g ++ [a]).map some)) (ha : a ∉ gXc g) (h6 : (eCh E).length < 6) (hc : chP G y' D' K' (gNa g, gCR g, gNR g, gLs g, gXc g ++ [a]) (fun j => if j = (eCh E).length then [] else gA j) (uCh E (eCh E ++ [c])) (eCh E).length a c) : PE G y' D' K' e (uCh E (eCh E ++ [c])) nn (gNa g, gCR g, gNR g, gLs g, gXc g ++ [a]) (fun j => if j = (eCh E).length then [] else gA j) := by
  obtain ⟨h1, h2, h3, h4, h5, h60, h7, h8⟩ := h
  refine ⟨peC.st h3 h1 ks kd (by decide), h2.st ks.1 (fun r fs _ => ks.k11 r fs) (kd.df (by decide)) kf.one, h3.st h1 h4 kd (by decide), hlc, ?_, ?_, ?_, fun k a1 b1 => ?_⟩
  · show (gXc g ++ [a]).Nodup
    rw [List.nodup_append]
    refine ⟨h5, by simp, fun x hx z hz e => ha ?_⟩
    rw [← List.mem_singleton.mp hz, ← e]
    exact hx
  · show (gXc g ++ [a]).length = (eCh E ++ [c]).length
    rw [List.length_append, List.length_append, h60]; rfl
  · show (eCh E ++ [c]).length ≤ 6
    rw [List.length_append, List.length_singleton]; omega
  · have a1' : k < (eCh E ++ [c]).length := a1
    rw [List.length_append, List.length_singleton] at a1'
    by_cases hk : k < (eCh E).length
    · have e1 : (gXc g ++ [a])[k]'b1 = (gXc g)[k] := List.getElem_append_left (by omega)
      have e2 : (eCh E ++ [c])[k]'a1 = (eCh E)[k] := List.getElem_append_left hk
      show chP G y' D' K' _ _ _ k ((gXc g ++ [a])[k]'b1) ((eCh E ++ [c])[k]'a1)
      rw [e1, e2]
      exact chP.st (by omega) (h8 k hk (by omega)) ks kd (by omega) (if_neg (by omega)) rfl (fun _ _ _ z => z)
    · have hk2 : k = (eCh E).length := by omega
      subst hk2
      have e1 : (gXc g ++ [a])[(eCh E).length]'b1 = a := by
        rw [List.getElem_append_right (by omega)]
        simp [h60]
      have e2 : (eCh E ++ [c])[(eCh E).length]'a1 = c := app_last (eCh E) c a1
      show chP G y' D' K' _ _ _ _ ((gXc g ++ [a])[(eCh E).length]'b1) ((eCh E ++ [c])[(eCh E).length]'a1)
      rw [e1, e2]
      exact hc
theorem px_chapter {G : GP} {y0 : HS} {n0 : Nat} {y : HS} {R e X tp op ln B : Nat} {ch : Option Nat} {bs : List Nat} {s : PS} {D : LM} {K : Nat → Nat} {g : EG} {gA : Nat → List Cn} {post : HS → Prop} {xp : Nat → Nat → HS → Prop} (hG : GK G) (h : PX G y0 n0 y R e X tp op ln ch bs s (ndL s) D K g gA) (hw : isW s 3 = true) (hN : ∀ (n : Nat) (x : Nd), (eNd (pE s))[n]? = some x → x.2.2.2.2 < (eCh (pE s)).length) (hBo : ∀ q, pChapter bs s = .ok q → mu bs q ≤ mu bs s + B) (hBe : ∀ f, pChapter bs s = .error f → 5 * bs.length + 80 ≤ mu bs s + B)
    (hp : ∀ y' q D' K' g', pChapter bs s = .ok q → PX G y0 n0 y' R e X tp op ln ch bs q (ndL q) D' K' g' (fun j => if j = (eCh (pE s)).length then [] else gA j) → gNR g' = gNR g → gNa g' = gNa g → gCR g' = gCR g → gLs g' = gLs g → (∀ c, c ∈ gXc g' → c ∈ gXc g ∨ n0 ≤ c) → post y') (hx : ∀ f q y', pChapter bs s = .error f → XF G R ln f n0 y0 6 q y' → xp 6 q y') : wp_X6_chapter G B post xp y R := by
  have ht := h.1.2.1
  have hlw := isW_p ht.b hw
  have l3 : (wd 3).length = 7 := by decide
  have c0 := cN_mu5 ht
  have c1n := cN_mu5 ht.nxt
  have m0 := mu_le ht
  have m1 := mu_le ht.nxt
  have m2 := mu_le ht.nxt.nxt
  have hBe' : ∀ f, pChapter bs s = .error f → 5 * bs.length + 70 ≤ mu bs s + B := fun f hf => by have := hBe f hf; omega
  obtain ⟨hP1, hP2, hP3⟩ := id h
  obtain ⟨⟨c1, -⟩, -, hK, hlc, hnd, hxl, h6, -⟩ := id hP3
  obtain ⟨fsL, hfL⟩ := hP2.1.cell hlc
  obtain ⟨tk, cR⟩ := hP1.cell
  refine ⟨fun y' u b r => y' = y ∧ u = 0 ∧ b = decide ((eCh (pE s)).length < 6) ∧ r = some R, ?_, _, ⟨_, cR, rfl⟩, e, rfl, _, ⟨_, c1, rfl⟩, (gLs g).1, rfl, ⟨fsL, Or.inl hfL⟩, hP2.1.size hlc ?_⟩
  · rintro y3 u6 b4 r5 ⟨rfl, rfl, rfl, rfl⟩
    by_cases h10 : (eCh (pE s)).length < 6
    · have e0 : pChapter bs s = (if nameOk (nxt bs s) = false then er (nxt bs s) 1 else
          if chI (pE s) (pW (nxt bs s)) < (eCh (pE s)).length then er (nxt bs s) 3 else
          bnd (pSpans bs 4 [] (nxt bs (nxt bs s))) (fun r => .ok (sEd r.2 (uCh (pE r.2) (eCh (pE r.2) ++ [(pW (nxt bs s), r.1, -1)]))))) := by
        unfold pChapter
        rw [if_neg (by omega)]
      have p1 : mu bs (nxt bs (nxt bs s)) + 9 ≤ mu bs s + B ∨ 5 * bs.length + 80 ≤ mu bs s + B := by
        cases hr : pChapter bs s with
        | error f => exact Or.inr (hBe f hr)
        | ok q =>
          refine Or.inl ?_
          have hB := hBo q hr
          rw [e0] at hr
          split at hr
          · cases hr
          · split at hr
            · cases hr
            · obtain ⟨u, u1, u2⟩ := bnd_ok hr
              obtain ⟨z1, z2, -⟩ := pSpans_mu _ _ _ _ ht.nxt.nxt (by decide) u1
              cases u2
              have hB' : mu bs u.2 ≤ mu bs s + B := hB
              omega
      have p0 : cN bs (pP s) + cN bs (pP (nxt bs s)) + 15 ≤ B := by rcases p1 with p1 | p1 <;> omega
      rw [decide_eq_true h10]
      refine ⟨Nat.zero_le _, fun y' u r10 b r12 => u = cN bs (pP s) + (if nameOk (nxt bs s) = true then 0 else 1) ∧ r12 = some R ∧ nameOk (nxt bs s) = true ∧ b = decide (¬ chI (pE s) (pW (nxt bs s)) < (eCh (pE s)).length) ∧ PX G y0 n0 y' R e X tp op ln ch bs (nxt bs s) (ndL s) D K g gA ∧ ∃ q, r10 = some q ∧ stW G y' q (pW (nxt bs s)), ?_, R, rfl, h.rdr, 0, by omega, xp_must hP1 (fun hb => by cases hb) (fun _ => ⟨h.rdr, cN bs (pP s), by omega, px_nxt h (Nat.le_refl _) (fun y41 P41 Q41 _ => ⟨P41.rdr, if nameOk (nxt bs s) = true then 0 else 1, by split <;> omega, px_name hG P41 (fun hb => ?_) (fun y44 q hok P44 Q44 S44 => ?_) (fun hb q y' hF => ?_)⟩)⟩) (fun hb => by cases hb)⟩
      · rintro y9 u13 r10 b11 r12 ⟨rfl, rfl, hok, rfl, P9, q, rfl, S9⟩
        rw [if_pos hok]
        rw [if_neg (by rw [hok]; decide)] at e0
        by_cases hci : chI (pE s) (pW (nxt bs s)) < (eCh (pE s)).length
        · rw [if_pos hci] at e0
          have hB := hBe _ e0
          rw [decide_eq_false (fun z => z hci)]
          exact ⟨by omega, R, rfl, P9.rdr, 1, by omega, xp_must P9.1 (fun _ => Nat.le_refl _) (fun hb => by cases hb) (fun _ q' y' hF => hx _ q' y' e0 hF)⟩
        · rw [if_neg hci] at e0
          rw [decide_eq_true hci]
          have t2 := ht.nxt.nxt
          refine ⟨by omega, R, rfl, P9.rdr, 0, by omega, xp_must P9.1 (fun hb => by cases hb) (fun _ => ⟨P9.rdr, cN bs (pP (nxt bs s)), by omega, px_nxt P9 (Nat.le_refl _) (fun y18 P18 Q18 _ => ⟨by omega, ?_⟩)⟩) (fun hb => by cases hb)⟩
          rintro a22 rfl y21 hy21
          have P21 : PX G y0 n0 y21 R e X tp op ln ch bs (nxt bs (nxt bs s)) (ndL s) D K g gA := by rw [hy21]; exact P18.nw
          have q21 : y21.1 y18.2 = some (ob 7 [va_rf none, va_rf none, va_rf none, va_rf none, va_rf none]) := by rw [hy21, hnew_at]
          have S18 := S9.pk Q18.pks
          have S21 : stW G y21 q (pW (nxt bs s)) := S18.pk (by rw [hy21]; exact (Qs.new P18.1.wf).pks)
          have hq18 : q < y18.2 := by obtain ⟨z9, h9, zz9, d3, -⟩ := S18; exact P18.1.wf.lt d3
          have hx18 : y18.2 ∉ gXc g := fun hm => by
            obtain ⟨k, hk, ek⟩ := List.getElem_of_mem hm
            obtain ⟨-, -, -, -, -, zl, -, zc⟩ := P18.2.2
            obtain ⟨nm, l, la, ll, tr, d1, -⟩ := zc k (by rw [← zl]; exact hk) hk
            have := P18.1.wf.lt d1
            omega
          refine ⟨3, by omega, px_chinit P21 q21 P18.1.2.2.2.2 (Nat.le_refl _) (fun y23 l la ll n1 n2 n3 d1 d2 d3 P23 q23 f23 => ⟨_, ⟨_, q23, rfl⟩, P23.rdr, ?_⟩)⟩
          have hTl : va_up (va_up (va_up D l (some [])) la (some [])) ll (some []) l = some [] := by rw [up_ne n2, up_ne n1, up_at]
          have hKl : lb (lb (lb K l 100) la 100) ll 100 l = 100 := by rw [lb_ne n2, lb_ne n1, lb_at]
          cases hs : pSpans bs 4 [] (nxt bs (nxt bs s)) with
          | error f =>
            have eE : pChapter bs s = .error f := by rw [e0, hs]; rfl
            have hB := hBe f eE
            refine ⟨B - (cN bs (pP s) + cN bs (pP (nxt bs s)) + 4), by omega, px_spans hG P23 hTl (by omega) (fun v' hv => ?_) (fun _ _ => by omega) (fun y' v' xs' hv => ?_) (fun f' q' y' hf hF => ?_)⟩
            · rw [hs] at hv; cases hv
            · rw [hs] at hv; cases hv
            · rw [hs] at hf; cases hf; exact hx f q' y' eE hF
          | ok u =>
            obtain ⟨z1, z2, z3, -⟩ := pSpans_mu _ _ _ _ t2 (by decide) hs
            have eq4 : pChapter bs s = .ok (sEd u.2 (uCh (pE u.2) (eCh (pE u.2) ++ [(pW (nxt bs s), u.1, -1)]))) := by rw [e0, hs]; rfl
            have hB : mu bs u.2 ≤ mu bs s + B := by have z := hBo _ eq4; exact z
            have hE : pE u.2 = pE s := by show u.2.2.1 = s.2.1; rw [z3]; rfl
            refine ⟨mu bs u.2 + 1 - mu bs (nxt bs (nxt bs s)), by omega, px_spans hG P23 hTl (by omega) (fun v' hv => ?_) (fun f hf => ?_) (fun y26 v' xs' hv P26 A26 B26 F26 => ?_) (fun f' q' y' hf hF => ?_)⟩
            · rw [hs] at hv; cases hv; omega
            · rw [hs] at hf; cases hf
            · rw [hs] at hv
              cases hv
              obtain ⟨tk26, cR26⟩ := P26.1.cell
              obtain ⟨⟨ce26, -⟩, -, hK26, l26, -, x26, -⟩ := id P26.2.2
              obtain ⟨fs26, hf26⟩ := P26.2.1.1.cell l26
              have q26 : y26.1 y18.2 = some (ob 7 [va_rf (some q), va_rf (some l), va_rf none, va_rf (some la), va_rf (some ll)]) := B26.1.2.1 _ _ q23 (Or.inr (Or.inl ⟨_, _, rfl, rf_ne⟩))
              have S23 : stW G y23 q (pW (nxt bs s)) := by
                obtain ⟨z9, h9, zz9, d4, q5, g5, r1, r2, r3⟩ := S21
                have ne : q ≠ y18.2 := Nat.ne_of_lt hq18
                have lz : y21.2 = y18.2 + 1 := by rw [hy21]; rfl
                refine ⟨z9, h9, zz9, (f23 q (by omega) ne).trans d4, q5, g5, r1, ?_, r3⟩
                rcases r2 with r2 | r2
                · refine Or.inl ((f23 q5 (P21.1.wf.lt r2) (fun ee => ?_)).trans r2)
                  rw [ee, q21] at r2
                  exact ob_ne_ai (Option.some.inj r2)
                · exact Or.inr r2
              have S26 := S23.pk B26.1
              have hl26 : ((gXc g).map some).length < 10 := by rw [List.length_map, x26, hE]; omega
              have hg : gco ((gXc g).map some).length ≤ 1 := by
                unfold gco
                split
                · exact Nat.le_refl _
                · first | omega | (rw [if_pos hl26]; omega)
              refine ⟨_, ⟨_, cR26, rfl⟩, e, rfl, _, ⟨_, ce26, rfl⟩, _, rfl, ⟨fs26, Or.inl hf26⟩, 1, by omega, P26.2.1.add P26.1.2.2.2.2 l26 (by omega) (fun z hz => by cases hz; exact ⟨7, _, by decide, Or.inl q26⟩) hg (fun y33 v33 k33 cl33 n33 kf33 b33 => ?_)⟩
              -- labels
              have c1' : (gLs g).1 ≠ l := fun ee => by have := hK26.1; rw [ee, hKl] at this; omega
              have c2' : (gLs g).1 ≠ la := fun ee => by have := hK26.1; rw [ee, lb_ne n3, lb_at] at this; omega
              have c3' : (gLs g).1 ≠ ll := fun ee => by have := hK26.1; rw [ee, lb_at] at this; omega
              have hEl : (eCh (pE u.2)).length = (eCh (pE s)).length := by rw [hE]
              have kd : KD 1 (va_up (va_up (va_up (va_up D l (some [])) la (some [])) ll (some [])) l (some xs')) (lb (lb (lb K l 100) la 100) ll 100) (va_up (va_up (va_up (va_up (va_up D l (some [])) la (some [])) ll (some [])) l (some xs')) (gLs g).1 (some ((gXc g).map some ++ [some y18.2]))) (lb (lb (lb (lb (lb (lb K l 100) la 100) ll 100) l 0) la (6 + 2 * (eCh (pE s)).length)) ll (7 + 2 * (eCh (pE s)).length)) := by
                refine KD.tr (KD.rel (T := l) (u := 0) (by omega)) (KD.tr (KD.rel (T := la) (u := 6 + 2 * (eCh (pE s)).length) ?_) (KD.tr (KD.rel (T := ll) (u := 7 + 2 * (eCh (pE s)).length) ?_) (KD.lab ?_)))
                · rw [lb_ne n1.symm, lb_ne n3, lb_at]; omega
                · rw [lb_ne n3.symm, lb_ne n2.symm, lb_at]; omega
                · rw [lb_ne c3', lb_ne c2', lb_ne c1']; exact hK26.1
              refine hp y33 _ _ (lb (lb (lb (lb (lb (lb K l 100) la 100) ll 100) l 0) la (6 + 2 * (eCh (pE s)).length)) ll (7 + 2 * (eCh (pE s)).length)) (gNa g, gCR g, gNR g, gLs g, gXc g ++ [y18.2]) eq4 ⟨P26.1.kp rfl v33.1.1 k33 b33 n33, v33, ?_⟩ rfl rfl rfl rfl (fun c hc => by
                rcases List.mem_append.mp hc with z | z
                · exact Or.inl z
                · exact Or.inr (by rw [List.mem_singleton.mp z]; exact P18.1.2.2.2.2))
              have hnd2 : ndL s = ndL u.2 := by show (eNd (pE s)).length = (eNd (pE u.2)).length; rw [hE]
              have hlf : lfs (uCh (pE u.2) (eCh (pE u.2) ++ [(pW (nxt bs s), u.1, -1)])) (eCh (pE u.2)).length = [] := by
                unfold lfs
                rw [List.filter_eq_nil_iff]
                intro n _
                show ¬ (match (eNd (pE u.2))[n]? with
                  | none => false
                  | some x => !(decide (x.1 < 0)) && decide (x.2.2.2.2 = (eCh (pE u.2)).length)) = true
                rw [hE]
                cases hx9 : (eNd (pE s))[n]? with
                | none => exact fun z => by cases z
                | some x =>
                  have := hN n x hx9
                  show ¬ (!(decide (x.1 < 0)) && decide (x.2.2.2.2 = (eCh (pE s)).length)) = true
                  rw [decide_eq_false (show ¬ x.2.2.2.2 = (eCh (pE s)).length by omega), Bool.and_false]
                  exact fun z => by cases z
              have big := PE.addCh (a := y18.2) (c := (pW (nxt bs s), u.1, -1)) P26.2.2 k33.pks kf33 kd (by rw [up_at, List.map_append]; rfl) hx18 (by rw [hEl]; exact h10) (by
                refine ⟨q, l, la, ll, none, k33 _ _ q26 rfl, S26.pk k33.pks, ?_, ?_, ?_, ⟨[], ?_, ?_⟩, ?_, Or.inl ⟨rfl, rfl⟩⟩
                · refine ⟨xs', ?_, All2.imp A26 (fun _ _ z => z.kp k33)⟩
                  rw [Df.at (by rw [lb_ne n2, lb_ne n1, lb_at]), up_ne c1'.symm, up_at]
                · rw [lb_ne n3, lb_at, hEl]
                · rw [lb_at, hEl]
                · rw [up_ne c2'.symm, up_ne n1.symm, up_ne n3, up_at]
                · show All2 (atL G y33) [] (if (eCh (pE u.2)).length = (eCh (pE u.2)).length then [] else gA (eCh (pE u.2)).length)
                  rw [if_pos rfl]; exact All2.nil
                · rw [hlf, up_ne c3'.symm, up_ne n2.symm, up_at]; rfl)
              rw [hnd2, hEl] at big
              exact big
            · rw [hs] at hf; cases hf
      · rw [if_neg (by rw [hb]; decide)]
        exact Nat.le_refl _
      · obtain ⟨tk44, cR44⟩ := P44.1.cell
        refine ⟨_, ⟨_, cR44, rfl⟩, e, rfl, ⟨_, Or.inl P44.2.2.1.1⟩, sp_find hG P44.2.1.1 P44.2.2 S44 (fun hno => ⟨fun _ => ⟨?_, rfl, hok, ?_, P44, q, rfl, S44⟩, fun a54 z => (by cases z)⟩) (fun k hk hk2 hki => ⟨fun z => (by cases z), fun a54 _ => ⟨?_, rfl, hok, ?_, P44, q, rfl, S44⟩⟩)⟩
        · omega
        · have hno' : chI (pE s) (pW (nxt bs s)) = (eCh (pE s)).length := hno
          exact (decide_eq_true (by omega)).symm
        · omega
        · have hk' : k < (eCh (pE s)).length := hk
          have hki' : chI (pE s) (pW (nxt bs s)) = k := hki
          exact (decide_eq_false (fun z => z (by omega))).symm
      · have eE : pChapter bs s = er (nxt bs s) 1 := by rw [e0, if_pos hb]
        exact hx _ q y' eE hF
    · have eE : pChapter bs s = er s 4 := by
        unfold pChapter
        rw [if_pos (by omega)]
      have hB := hBe _ eE
      rw [decide_eq_false h10]
      exact ⟨Nat.zero_le _, fun _ _ _ _ _ => False, fun _ _ _ _ _ z => z.elim, R, rfl, h.rdr, 1, by omega, xp_must hP1 (fun _ => Nat.le_refl _) (fun hb => by cases hb) (fun _ q' y' hF => hx _ q' y' eE hF)⟩
  · rw [List.length_map, hxl]
    refine ⟨fun hge => ⟨rfl, rfl, ?_, rfl⟩, fun hlt => ⟨rfl, rfl, ?_, rfl⟩⟩
    · have : 6 ≤ (eCh (pE s)).length := (nI_leI (by omega) (by omega)).mp hge
      exact (decide_eq_false (by omega)).symm
    · have : ¬ 6 ≤ (eCh (pE s)).length := fun z => hlt (nI_le z (by omega))
      exact (decide_eq_true (by omega)).symm
