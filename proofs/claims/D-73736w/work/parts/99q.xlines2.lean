/-! The component's reader: partners, chapters -/
set_option maxRecDepth 100000
/-- a point on the way is within the budget -/
theorem bud_pt {α : Type} {bs : List Nat} {res : Except Nat α} {f : α → PS} {s sI : PS} {B c c2 : Nat} (hBo : ∀ v, res = .ok v → mu bs (f v) ≤ mu bs s + B + c2) (hBe : ∀ e, res = .error e → 5 * bs.length + 70 ≤ mu bs s + B) (hm : ∀ v, res = .ok v → mu bs sI + c + c2 ≤ mu bs (f v)) (ht : isTok bs sI.1) (hc : c ≤ 60) : mu bs sI + c ≤ mu bs s + B := by
  have m := mu_le ht
  cases hr : res with
  | error e => have := hBe e hr; omega
  | ok v =>
    have h1 := hBo v hr
    have h2 := hm v hr
    omega
theorem px_pinit {G : GP} {y0 : HS} {n0 : Nat} {y : HS} {R e X tp op ln B a : Nat} {ch p : Option Nat} {n : Int32} {bs : List Nat} {s : PS} {nn : Nat} {D : LM} {K : Nat → Nat} {g : EG} {gA : Nat → List Cn} {v1 v2 : Value} {post : HS → Prop} (h : PX G y0 n0 y R e X tp op ln ch bs s nn D K g gA) (hq : y.1 a = some (ob 10 [va_rf none, v1, v2])) (hn : n0 ≤ a) (hB : 1 ≤ B) (hp : ∀ y', PX G y0 n0 y' R e X tp op ln ch bs s nn (va_up D y.2 (some [])) (lb K y.2 100) g gA → y'.1 a = some (ob 10 [va_rf p, .int n, va_rf (some y.2)]) → (∀ b, b < y.2 → b ≠ a → y'.1 b = y.1 b) → D y.2 = none → KF y D y' (va_up D y.2 (some [])) → post y') : wp_X12_init G B post y a p n := by
  have la := h.1.wf.lt hq
  refine ⟨by omega, ?_⟩
  rintro a2 rfl y1 hy1
  have P1 : PX G y0 n0 y1 R e X tp op ln ch bs s nn D K g gA := by rw [hy1]; exact h.nw
  have n1 : n0 ≤ y.2 := h.1.2.2.2.2
  have f1 : D y.2 = none := h.2.1.1.fresh
  have k1 : KF y D y1 D := by rw [hy1]; exact (Qs.new h.1.wf).kf h.2.1.1
  have q1 : y1.1 a = some (ob 10 [va_rf none, v1, v2]) := by rw [hy1, hnew_ne (by omega)]; exact hq
  refine px_list P1 f1 n1 (by rw [hy1, hnew_at]) (fun y3 P3 o3 z3 k3 => ?_)
  have q3 : y3.1 a = some (ob 10 [va_rf none, v1, v2]) := (o3 a (by omega)).trans q1
  refine ⟨_, q3, by show 2 < 3; omega, fun y4 hy4 => ?_⟩
  have q4 : y4.1 a = some (ob 10 [va_rf none, v1, va_rf (some y.2)]) := by rw [hy4, hput_at]; rfl
  refine ⟨_, q4, by show 0 < 3; omega, fun y6 hy6 => ?_⟩
  have q6 : y6.1 a = some (ob 10 [va_rf p, v1, va_rf (some y.2)]) := by rw [hy6, hput_at]; rfl
  refine ⟨_, q6, by show 1 < 3; omega, fun y8 hy8 => ?_⟩
  have q8 : y8.1 a = some (ob 10 [va_rf p, .int n, va_rf (some y.2)]) := by rw [hy8, hput_at]; rfl
  have f8 : ∀ b, b ≠ a → y8.1 b = y3.1 b := fun b hb => by rw [hy8, hput_ne hb, hy6, hput_ne hb, hy4, hput_ne hb]
  obtain ⟨P8, k8⟩ := P3.pu q3 (by decide) hn f8 q8 (by rw [hy8, hy6, hy4]; rfl)
  refine hp y8 P8 q8 (fun b hb hne => ?_) f1 ((k1.tr k3).tr k8)
  rw [f8 b hne, o3 b (by omega), hy1, hnew_ne (by omega)]
theorem px_partner {G : GP} {y0 : HS} {n0 : Nat} {y : HS} {R e X tp op ln B : Nat} {ch : Option Nat} {bs : List Nat} {s : PS} {D : LM} {K : Nat → Nat} {g : EG} {gA : Nat → List Cn} {post : HS → Prop} {xp : Nat → Nat → HS → Prop} (hG : GK G) (h : PX G y0 n0 y R e X tp op ln ch bs s (ndL s) D K g gA) (hw : isW s 14 = true) (hBo : ∀ q, pPartner bs s = .ok q → mu bs q ≤ mu bs s + B) (hBe : ∀ f, pPartner bs s = .error f → 5 * bs.length + 80 ≤ mu bs s + B)
    (hp : ∀ y' q D' K', pPartner bs s = .ok q → PX G y0 n0 y' R e X tp op ln ch bs q (ndL q) D' K' g gA → post y') (hx : ∀ f q y', pPartner bs s = .error f → XF G R ln f n0 y0 6 q y' → xp 6 q y') : wp_X6_partner G B post xp y R := by
  have ht := h.1.2.1
  have hlw := isW_p ht.b hw
  have l14 : (wd 14).length = 7 := by decide
  have l2w : (wd 2).length = 3 := by decide
  have c0 := cN_mu5 ht
  have m0 := mu_le ht
  have hBe' : ∀ f, pPartner bs s = .error f → 5 * bs.length + 70 ≤ mu bs s + B := fun f hf => by have := hBe f hf; omega
  obtain ⟨hP1, hP2, hP3⟩ := id h
  obtain ⟨⟨c1, -, ⟨xs, l1, l2⟩, -, -, -, b10, -⟩, -, hK, -⟩ := id hP3
  obtain ⟨fsL, hfL⟩ := hP2.1.cell l1
  obtain ⟨tk, cR⟩ := hP1.cell
  have hlen := l2.1
  refine ⟨fun y' u b r => y' = y ∧ u = 0 ∧ b = decide ((ePt (pE s)).length < 10) ∧ r = some R, ?_, _, ⟨_, cR, rfl⟩, e, rfl, _, ⟨_, c1, rfl⟩, (gLs g).2.2.1, rfl, ⟨fsL, Or.inl hfL⟩, hP2.1.size l1 ?_⟩
  · rintro y3 u6 b4 r5 ⟨rfl, rfl, rfl, rfl⟩
    by_cases h10 : (ePt (pE s)).length < 10
    · have e0 : pPartner bs s = bnd (pSpan bs false false (nxt bs s)) (fun r => bnd (pNum bs 1 3 r.2) (fun q =>
          if isW q.2 2 = true then bnd (pSpans bs 4 [] (nxt bs q.2)) (fun u => .ok (sEd u.2 (uPt (pE u.2) (ePt (pE u.2) ++ [(r.1, q.1, u.1)]))))
          else .ok (sEd q.2 (uPt (pE q.2) (ePt (pE q.2) ++ [(r.1, q.1, [])]))))) := by
        unfold pPartner
        rw [if_neg (by omega)]
      -- points of the way
      have last : ∀ (v : Sp × PS) (w : Int32 × PS) (q : PS), isTok bs w.2.1 → (if isW w.2 2 = true then bnd (pSpans bs 4 [] (nxt bs w.2)) (fun u => .ok (sEd u.2 (uPt (pE u.2) (ePt (pE u.2) ++ [(v.1, w.1, u.1)]))) ) else .ok (sEd w.2 (uPt (pE w.2) (ePt (pE w.2) ++ [(v.1, w.1, [])])))) = Except.ok q → mu bs w.2 ≤ mu bs q ∧ (isW w.2 2 = true → mu bs (nxt bs w.2) + 9 ≤ mu bs q) := by
        intro v w q tw hq
        have n4 := mu_nxt tw
        split at hq
        · obtain ⟨u, u1, u2⟩ := bnd_ok hq
          obtain ⟨z1, z2, -⟩ := pSpans_mu _ _ _ _ tw.nxt (by decide) u1
          cases u2
          have : mu bs u.2 = mu bs (sEd u.2 (uPt (pE u.2) (ePt (pE u.2) ++ [(v.1, w.1, u.1)]))) := rfl
          exact ⟨by omega, fun _ => by omega⟩
        · next hno =>
          cases hq
          exact ⟨Nat.le_refl _, fun z => absurd z hno⟩
      have p1 : mu bs (nxt bs s) + 12 ≤ mu bs s + B := bud_pt (f := fun q => q) (c2 := 0) hBo hBe' (fun q hq => by
        rw [e0] at hq
        obtain ⟨v, v1, v2⟩ := bnd_ok hq
        obtain ⟨z1, z2, -⟩ := pSpan_mu ht.nxt v1
        obtain ⟨w, w1, w2⟩ := bnd_ok v2
        obtain ⟨z3, z4, -⟩ := pNum_mu z1 w1
        have := (last v w q z3 w2).1
        show _ ≤ mu bs q
        omega) ht.nxt (by omega)
      rw [decide_eq_true h10]
      refine ⟨Nat.zero_le _, fun y' u r => ∃ (sI : PS) (sp : Sp) (lv : Int32) (us : List Sp) (xs : List (Option Nat)) (a sq T : Nat), r = some a ∧ y'.1 a = some (ob 10 [va_rf (some sq), .int lv, va_rf (some T)]) ∧ y'.1 sq = some (ob 8 [.int sp.1, .int sp.2]) ∧ D T = none ∧ PX G y0 n0 y' R e X tp op ln ch bs sI (ndL s) (va_up D T (some xs)) (lb K T 100) g gA ∧ All2 (spR y') xs us ∧ pPartner bs s = .ok (sEd sI (uPt (pE sI) (ePt (pE sI) ++ [(sp, lv, us)]))) ∧ u + mu bs s + 1 ≤ mu bs sI ∧ pE sI = pE s, ?_, R, rfl, h.rdr, 0, by omega, xp_must hP1 (fun hb => by cases hb) (fun _ => ⟨h.rdr, cN bs (pP s), by omega, px_nxt h (Nat.le_refl _) (fun y24 P24 Q24 _ => ⟨P24.rdr, ?_⟩)⟩) (fun hb => by cases hb)⟩
      · rintro y9 u11 r10 ⟨sI, sp, lv, us, xs9, a, sq, T, rfl, ca, csq, hT, P9, A9, eq9, hu, hE⟩
        have hB : mu bs sI ≤ mu bs s + B := by have z := hBo _ eq9; exact z
        obtain ⟨tk9, cR9⟩ := P9.1.cell
        obtain ⟨⟨ce9, -, ⟨xp9, l9, a9⟩, -⟩, -, hK9, -⟩ := id P9.2.2
        obtain ⟨fs9, hf9⟩ := P9.2.1.1.cell l9
        have hlp : xp9.length < 10 := by rw [a9.1, hE]; exact h10
        have hg : gco xp9.length ≤ 1 := by
          unfold gco
          split
          · exact Nat.le_refl _
          · first | omega | (rw [if_pos hlp]; omega)
        refine ⟨by omega, _, ⟨_, cR9, rfl⟩, e, rfl, _, ⟨_, ce9, rfl⟩, _, rfl, ⟨fs9, Or.inl hf9⟩, 1, by omega, P9.2.1.add P9.1.2.2.2.2 l9 (by omega) (fun z hz => by cases hz; exact ⟨10, _, by decide, Or.inl ca⟩) hg (fun y16 v16 k16 cl16 n16 kf16 b16 => ?_)⟩
        have ks := k16.pks
        have hLT : (gLs g).2.2.1 ≠ T := fun ee => by
          have := hK9.2.2.1
          rw [ee, lb_at] at this
          omega
        have kd : KD 3 (va_up D T (some xs9)) (lb K T 100) (va_up (va_up D T (some xs9)) (gLs g).2.2.1 (some (xp9 ++ [some a]))) (lb (lb K T 100) T 0) := KD.tr (KD.rel (by rw [lb_at]; omega)) (KD.lab (by rw [lb_ne hLT]; exact hK9.2.2.1))
        refine hp y16 _ _ (lb (lb K T 100) T 0) eq9 ⟨P9.1.kp rfl v16.1.1 k16 b16 n16, v16, ?_⟩
        have hnd : ndL s = ndL sI := by show (eNd (pE s)).length = (eNd (pE sI)).length; rw [hE]
        have hT2 : Df (lb (lb K T 100) T 0) (va_up (va_up D T (some xs9)) (gLs g).2.2.1 (some (xp9 ++ [some a]))) T = some xs9 := by
          rw [Df.at (lb_at _ _ _), up_ne hLT.symm, up_at]
        have := PE.addPt (pt := (sp, lv, us)) P9.2.2 l9 a9 ks kf16 kd (up_at _ _ _) ⟨a, some sq, T, rfl, k16 _ _ ca rfl, ⟨sq, rfl, k16 _ _ csq rfl⟩, xs9, hT2, All2.imp A9 (fun _ _ z => z.kp k16)⟩ (by rw [← a9.1]; exact hlp)
        rw [hnd] at this
        exact this
      · cases hc : pSpan bs false false (nxt bs s) with
        | error f =>
          have eS : pPartner bs s = .error f := by rw [e0, hc]; rfl
          have hB := hBe f eS
          refine ⟨B - cN bs (pP s), by omega, px_span (o := false) hG P24 rfl (fun v hv => ?_) (fun _ _ => by omega) (fun y' q v hv => ?_) (fun f' q y' hf hF => ?_)⟩
          · rw [hc] at hv; cases hv
          · rw [hc] at hv; cases hv
          · rw [hc] at hf; cases hf; exact hx f q y' eS hF
        | ok v =>
          obtain ⟨t2, k2, p2⟩ := pSpan_mu ht.nxt hc
          have c2 := cN_mu5 t2
          have e2 : pPartner bs s = bnd (pNum bs 1 3 v.2) (fun q =>
            if isW q.2 2 = true then bnd (pSpans bs 4 [] (nxt bs q.2)) (fun u => .ok (sEd u.2 (uPt (pE u.2) (ePt (pE u.2) ++ [(v.1, q.1, u.1)]))))
            else .ok (sEd q.2 (uPt (pE q.2) (ePt (pE q.2) ++ [(v.1, q.1, [])])))) := by rw [e0, hc]; rfl
          have p3 : mu bs v.2 + 3 ≤ mu bs s + B := bud_pt (f := fun q => q) (c2 := 0) hBo hBe' (fun q hq => by
            rw [e2] at hq
            obtain ⟨w, w1, w2⟩ := bnd_ok hq
            obtain ⟨z3, z4, -⟩ := pNum_mu t2 w1
            have := (last v w q z3 w2).1
            show _ ≤ mu bs q
            omega) t2 (by omega)
          refine ⟨mu bs v.2 - mu bs (nxt bs s), by omega, px_span (o := false) hG P24 rfl (fun v' hv => ?_) (fun f hf => ?_) (fun y27 q v' hv P27 Q27 hq27 c27 => ?_) (fun f' q y' hf hF => ?_)⟩
          · rw [hc] at hv; cases hv; omega
          · rw [hc] at hf; cases hf
          · rw [hc] at hv
            cases hv
            refine ⟨by omega, ?_⟩
            rintro a32 rfl y31 hy31
            have P31 : PX G y0 n0 y31 R e X tp op ln ch bs v.2 (ndL s) D K g gA := by rw [hy31]; exact P27.nw
            have q31 : y31.1 y27.2 = some (ob 10 [va_rf none, .int 0, va_rf none]) := by rw [hy31, hnew_at]
            have hne : q ≠ y27.2 := Nat.ne_of_lt (P27.1.wf.lt c27)
            have s31 : y31.1 q = some (ob 8 [.int v.1.1, .int v.1.2]) := by rw [hy31, hnew_ne hne]; exact c27
            have n27 : n0 ≤ y27.2 := P27.1.2.2.2.2
            refine ⟨P31.rdr, ?_⟩
            cases hn : pNum bs 1 3 v.2 with
            | error f =>
              have eE : pPartner bs s = .error f := by rw [e2, hn]; rfl
              have hB := hBe f eE
              have m2 := mu_le t2
              refine ⟨61, by omega, px_number P31 (by decide) (fun v' hv => ?_) (fun _ _ => Nat.le_refl _) (fun y' hv => ?_) (fun f' q' y' hf hF => ?_)⟩
              · rw [hn] at hv; cases hv
              · rw [hn] at hv; cases hv
              · rw [hn] at hf; cases hf; exact hx f q' y' eE hF
            | ok w =>
              obtain ⟨t3, k3, ew⟩ := pNum_mu t2 hn
              have e3 : pPartner bs s = (if isW (nxt bs v.2) 2 = true then bnd (pSpans bs 4 [] (nxt bs (nxt bs v.2))) (fun u => .ok (sEd u.2 (uPt (pE u.2) (ePt (pE u.2) ++ [(v.1, nI (pNm v.2), u.1)]))))
                else .ok (sEd (nxt bs v.2) (uPt (pE (nxt bs v.2)) (ePt (pE (nxt bs v.2)) ++ [(v.1, nI (pNm v.2), [])])))) := by rw [e2, hn, ew]; rfl
              rw [ew] at t3 k3
              have k3' : cN bs (pP v.2) + mu bs v.2 + 3 ≤ mu bs (nxt bs v.2) := k3
              have t3' : isTok bs (nxt bs v.2).1 := t3
              have p4 : mu bs (nxt bs v.2) + 0 ≤ mu bs s + B := bud_pt (f := fun q => q) (c2 := 0) hBo hBe' (fun q hq => by
                rw [e3] at hq
                have := (last v (nI (pNm v.2), nxt bs v.2) q t3' hq).1
                show _ ≤ mu bs q
                exact this) t3' (by omega)
              refine ⟨cN bs (pP v.2), by omega, px_number P31 (by decide) (fun _ _ => Nat.le_refl _) (fun f hf => ?_) (fun y33 e33 P33 Q33 => ?_) (fun f' q' y' hf hF => ?_)⟩
              · rw [hn] at hf; cases hf
              · have q33 := Q33.kO q31 (by decide) (by decide)
                have s33 := Q33.kO s31 (by decide) (by decide)
                have lq33 := P33.1.wf.lt s33
                refine ⟨1, by omega, px_pinit P33 q33 n27 (by omega) (fun y37 P37 q37 f37 hT kf37 => ⟨P37.rdr, xl_isWord hG P37.1.1 (by decide) ⟨fun hb => ?_, fun hb => ?_⟩⟩)⟩
                · have s37 := (f37 q lq33 hne).trans s33
                  have hE : pE (nxt bs v.2) = pE s := by show v.2.2.1 = s.2.1; rw [p2]; rfl
                  refine ⟨nxt bs v.2, v.1, nI (pNm v.2), [], [], _, q, y33.2, rfl, q37, s37, hT, P37, All2.nil, ?_, ?_, hE⟩
                  · rw [e3, if_neg (by rw [hb]; decide)]
                  · omega
                · have hbw : isW (nxt bs v.2) 2 = true := hb
                  rw [if_pos hbw] at e3
                  have hl2 := isW_p t3'.b hbw
                  have c4 := cN_mu5 t3'
                  have t4 : isTok bs (nxt bs (nxt bs v.2)).1 := t3'.nxt
                  have p5 : mu bs (nxt bs (nxt bs v.2)) + 9 ≤ mu bs s + B := bud_pt (f := fun q => q) (c2 := 0) hBo hBe' (fun q hq => by
                    rw [e3] at hq
                    obtain ⟨u, u1, u2⟩ := bnd_ok hq
                    obtain ⟨z1, z2, -⟩ := pSpans_mu _ _ _ _ t4 (by decide) u1
                    cases u2
                    show _ ≤ mu bs u.2
                    omega) t4 (by omega)
                  have s37 := (f37 q lq33 hne).trans s33
                  refine ⟨P37.rdr, cN bs (pP (nxt bs v.2)), by omega, px_nxt P37 (Nat.le_refl _) (fun y43 P43 Q43 _ => ?_)⟩
                  have q43 := Q43.kO q37 (by decide) (by decide)
                  have s43 := Q43.kO s37 (by decide) (by decide)
                  refine ⟨_, ⟨_, q43, rfl⟩, P43.rdr, ?_⟩
                  cases hs4 : pSpans bs 4 [] (nxt bs (nxt bs v.2)) with
                  | error f =>
                    have eE : pPartner bs s = .error f := by rw [e3, hs4]; rfl
                    have hB := hBe f eE
                    have m4 := mu_le t4
                    refine ⟨B - (mu bs (nxt bs (nxt bs v.2)) - mu bs s), by omega, px_spans hG P43 (up_at _ _ _) (by rw [lb_at]; omega) (fun v' hv => ?_) (fun _ _ => by omega) (fun y' v' xs' hv => ?_) (fun f' q' y' hf hF => ?_)⟩
                    · rw [hs4] at hv; cases hv
                    · rw [hs4] at hv; cases hv
                    · rw [hs4] at hf; cases hf; exact hx f q' y' eE hF
                  | ok u =>
                    obtain ⟨z1, z2, z3, -⟩ := pSpans_mu _ _ _ _ t4 (by decide) hs4
                    have eq4 : pPartner bs s = .ok (sEd u.2 (uPt (pE u.2) (ePt (pE u.2) ++ [(v.1, nI (pNm v.2), u.1)]))) := by rw [e3, hs4]; rfl
                    have hB : mu bs u.2 ≤ mu bs s + B := by have z := hBo _ eq4; exact z
                    refine ⟨mu bs u.2 + 1 - mu bs (nxt bs (nxt bs v.2)), by omega, px_spans hG P43 (up_at _ _ _) (by rw [lb_at]; omega) (fun v' hv => ?_) (fun f hf => ?_) (fun y47 v' xs' hv P47 A47 B47 F47 => ?_) (fun f' q' y' hf hF => ?_)⟩
                    · rw [hs4] at hv; cases hv; omega
                    · rw [hs4] at hf; cases hf
                    · rw [hs4] at hv
                      cases hv
                      rw [up_up] at P47
                      have hE : pE u.2 = pE s := by show u.2.2.1 = s.2.1; rw [z3]; show v.2.2.1 = s.2.1; rw [p2]; rfl
                      refine ⟨u.2, v.1, nI (pNm v.2), u.1, xs', _, q, y33.2, rfl, B47.2.1 _ _ _ (by decide) (by decide) q43, B47.2.1 _ _ _ (by decide) (by decide) s43, hT, P47, A47, eq4, by omega, hE⟩
                    · rw [hs4] at hf; cases hf
              · rw [hn] at hf; cases hf
          · rw [hc] at hf; cases hf
    · have eE : pPartner bs s = er s 4 := by
        unfold pPartner
        rw [if_pos (by omega)]
      have hB := hBe _ eE
      rw [decide_eq_false h10]
      exact ⟨Nat.zero_le _, fun _ _ _ => False, fun _ _ _ z => z.elim, R, rfl, h.rdr, 1, by omega, xp_must hP1 (fun _ => Nat.le_refl _) (fun hb => by cases hb) (fun _ q' y' hF => hx _ q' y' eE hF)⟩
  · rw [hlen]
    refine ⟨fun hge => ⟨rfl, rfl, ?_, rfl⟩, fun hlt => ⟨rfl, rfl, ?_, rfl⟩⟩
    · have : 10 ≤ (ePt (pE s)).length := (nI_leI (by omega) (by omega)).mp hge
      exact (decide_eq_false (by omega)).symm
    · have : ¬ 10 ≤ (ePt (pE s)).length := fun z => hlt (nI_le z (by omega))
      exact (decide_eq_true (by omega)).symm
