/-! The component's reader: ranks, partners, chapters -/
set_option maxRecDepth 100000
/-- an object that was under way is finished -/
theorem PX.pu {G : GP} {y0 : HS} {n0 : Nat} {y y' : HS} {R e X tp op ln q c : Nat} {ch : Option Nat} {bs : List Nat} {s : PS} {nn : Nat} {D : LM} {K : Nat → Nat} {g : EG} {gA : Nat → List Cn} {fs fs' : List Value} (h : PX G y0 n0 y R e X tp op ln ch bs s nn D K g gA) (hq : y.1 q = some (ob c (va_rf none :: fs))) (hc : 7 ≤ c ∧ c ≤ 14 ∧ c ≠ 11) (hn : n0 ≤ q) (h1 : ∀ a, a ≠ q → y'.1 a = y.1 a) (hq' : y'.1 q = some (ob c fs')) (h2 : y'.2 = y.2) : PX G y0 n0 y' R e X tp op ln ch bs s nn D K g gA ∧ KF y D y' D := by
  obtain ⟨a1, a2, a3⟩ := h
  have hw := a1.wf
  have hne : ∀ b x, y.1 b = some x → (∀ fs, x ≠ ob c fs) → y'.1 b = some x := fun b x hb hx => by
    rw [h1 b (fun e => by rw [e, hq] at hb; exact hx _ (Option.some.inj hb).symm)]
    exact hb
  have w' : WF G y' := by
    refine ⟨fun b x hb => ?_, hw.2.1, by rw [h2]; exact hw.2.2⟩
    by_cases e : b = q
    · subst e; rw [h2]; exact hw.1 _ _ hq
    · rw [h1 b e] at hb; rw [h2]; exact hw.1 _ _ hb
  have hls : ∀ b e, y.1 b = some e → isLs e = true → y'.1 b = some e := fun b x hb hx => hne b x hb (fun gs z => by
    subst z
    have : (c == 18) = true := hx
    rw [beq_iff_eq] at this
    omega)
  have hcl : Cls y y' := fun b c' gs hb => by
    by_cases e : b = q
    · subst e
      rw [hq] at hb
      obtain ⟨rfl, rfl⟩ := ob_inj.mp (Option.some.inj hb)
      exact ⟨_, hq'⟩
    · exact ⟨gs, by rw [h1 b e]; exact hb⟩
  have hkf : KF y D y' D := KF.step hls (fun a xs hd => a2.1.cell hd)
  refine ⟨⟨a1.mv rfl w' (fun b x hb hx => hne b x hb (fun gs z => ?_)) (fun a ha => h1 a (by omega)) (by omega), a2.step w' hls hcl, a3.st ⟨fun b x hb hx => ?_, fun b x hb hx => ?_, fun b z h0 zz hb => ⟨h0, zz, hne b _ hb (fun gs z => ?_)⟩⟩ hkf.one (KD.rf _ D K)⟩, hkf⟩
  · subst z
    rcases hx with ⟨c', gs', z1, z2⟩ | ⟨n, g', z1⟩
    · obtain ⟨rfl, -⟩ := ob_inj.mp z1
      omega
    · exact ob_ne_ai z1
  · by_cases e : b = q
    · exfalso
      rw [e, hq] at hb
      cases hb
      rcases hx with ⟨c', v, gs, z1, -, -, -, z2⟩ | ⟨u1, u2, u3, u4, z1, -⟩ | ⟨t, n, g', z1, -⟩
      · exact z2 (List.cons.inj (ob_inj.mp z1).2).1.symm
      · have := (ob_inj.mp z1).1
        omega
      · exact ob_ne_ai z1
    · rw [h1 b e]; exact hb
  · by_cases e : b = q
    · exfalso
      rw [e, hq] at hb
      cases hb
      rcases hx with ⟨gs, z1⟩ | ⟨v, gs, z1, z2⟩ | ⟨n, g', z1⟩ | ⟨n, g', z1⟩ | ⟨gs, z1⟩
      · have := (ob_inj.mp z1).1
        omega
      · exact z2 (List.cons.inj (ob_inj.mp z1).2).1.symm
      · exact ob_ne_ar z1
      · exact ob_ne_ai z1
      · have := (ob_inj.mp z1).1
        omega
    · rw [h1 b e]; exact hb
  · have := (ob_inj.mp z).1
    omega
theorem px_number {G : GP} {y0 : HS} {n0 : Nat} {y : HS} {R e X tp op ln B lo hi : Nat} {ch : Option Nat} {bs : List Nat} {s : PS} {nn : Nat} {D : LM} {K : Nat → Nat} {g : EG} {gA : Nat → List Cn} {post : Int32 → HS → Prop} {xp : Nat → Nat → HS → Prop} (h : PX G y0 n0 y R e X tp op ln ch bs s nn D K g gA) (hlh : lo ≤ hi ∧ hi < 2000) (hBo : ∀ v, pNum bs lo hi s = .ok v → cN bs (pP s) ≤ B) (hBe : ∀ f, pNum bs lo hi s = .error f → 61 ≤ B) (hp : ∀ y', pNum bs lo hi s = .ok (nI (pNm s), nxt bs s) → PX G y0 n0 y' R e X tp op ln ch bs (nxt bs s) nn D K g gA → Qs y y' → post (nI (pNm s)) y') (hx : ∀ f q y', pNum bs lo hi s = .error f → XF G R ln f n0 y0 6 q y' → xp 6 q y') : wp_X6_number G B post xp y R (nI lo) (nI hi) :=
  xp_number h.1 hlh hBo hBe (fun y' e1 X1 F1 => hp y' e1 (h.q X1 rfl (h.1.qfrr X1 F1)) (h.1.qfrr X1 F1)) hx
theorem pNum_mu {bs : List Nat} {lo hi : Nat} {s : PS} {v : Int32 × PS} (ht : isTok bs s.1) (h : pNum bs lo hi s = .ok v) : isTok bs v.2.1 ∧ cN bs (pP s) + mu bs s + 3 ≤ mu bs v.2 ∧ v = (nI (pNm s), nxt bs s) := by
  have c0 := cN_mu5 ht
  unfold pNum at h
  split at h
  · cases h
  · next h1 =>
    split at h
    · cases h
    · cases h
      have hk : pK s = 3 := Decidable.not_not.mp h1
      have h2 := ht.b.2.2.1 (by show pK s ≠ 0; omega)
      have h3 : pAt s + 1 ≤ pP s := h2
      exact ⟨ht.nxt, by show cN bs (pP s) + mu bs s + 3 ≤ mu bs (nxt bs s); omega, rfl⟩
theorem xl_rank2 {G : GP} {y : HS} {q : Nat} {v0 v1 : Value} {p : Option Nat} {n : Int32} {post : HS → Prop} (hq : y.1 q = some (ob 9 [v0, v1])) (hp : ∀ y', y'.1 q = some (ob 9 [va_rf p, .int n]) → (∀ c, c ≠ q → y'.1 c = y.1 c) → y'.2 = y.2 → post y') : wp_X11_init G post y q p n := by
  refine ⟨_, hq, by show 0 < 2; omega, fun y1 hy1 => ?_⟩
  have q1 : y1.1 q = some (ob 9 [va_rf p, v1]) := by rw [hy1, hput_at]; rfl
  refine ⟨_, q1, by show 1 < 2; omega, fun y3 hy3 => hp y3 ?_ (fun c hc => ?_) ?_⟩
  · rw [hy3, hput_at]; rfl
  · rw [hy3, hput_ne hc, hy1, hput_ne hc]
  · rw [hy3, hy1]; rfl
theorem PE.addRk {G : GP} {y y' : HS} {D : LM} {K : Nat → Nat} {e : Nat} {E : Ed} {nn : Nat} {g : EG} {gA : Nat → List Cn} {xs : List (Option Nat)} {r : Option Nat} {rk : Rk} (h : PE G y D K e E nn g gA) (hl : D (gLs g).2.1 = some xs) (ha : All2 (rkR y) xs (eRk E)) (kp : Kp y y') (kf : KF y D y' (va_up D (gLs g).2.1 (some (xs ++ [r])))) (hr : rkR y r rk) (h10 : (eRk E).length < 10) : PE G y' (va_up D (gLs g).2.1 (some (xs ++ [r]))) K e (uRk E (eRk E ++ [rk])) nn g gA := by
  obtain ⟨h1, h2, h3, h4, h5, h6, h7, h8⟩ := h
  have ks := kp.pks
  have kd : KD 2 D K (va_up D (gLs g).2.1 (some (xs ++ [r]))) K := KD.lab h3.2.1
  have hK := h3.st h1 h4 kd (by decide)
  refine ⟨?_, h2.st ks.1 (fun r fs _ => ks.k11 r fs) (kd.df (by decide)) kf.one, hK, (kd _ _ h4 (by rw [h3.1]; omega)).2 (by rw [h3.1]; omega), h5, h6, h7, fun k a b => chP.st (by omega) (h8 k a b) ks kd (by omega) rfl rfl (fun _ _ _ z => z)⟩
  obtain ⟨c1, -, ⟨ys, b1, b2⟩, ⟨gn, d1, d2, d3⟩, ⟨gw, f1, f2⟩, f3, f4, f5⟩ := h1
  refine ⟨ks.2.1 _ _ c1 (Or.inl ⟨_, rfl⟩), ⟨_, up_at _ _ _, All2.snoc (All2.imp ha (fun _ _ z => z.pk ks.1)) (hr.pk ks.1)⟩, ⟨ys, (kd _ _ b1 (by rw [h3.2.2.1]; omega)).2 (by rw [h3.2.2.1]; omega), All2.imp b2 (fun _ _ z => z.pk ks.1 (kd.df (by decide)))⟩, ⟨gn, ks.2.1 _ _ d1 (Or.inr (Or.inr (Or.inl ⟨_, _, rfl⟩))), fun i hi => ?_, d3⟩, ⟨gw, ks.2.1 _ _ f1 (Or.inr (Or.inr (Or.inr (Or.inl ⟨_, _, rfl⟩)))), f2⟩, ?_, f4, f5⟩
  · obtain ⟨q, z1, z2⟩ := d2 i hi
    exact ⟨q, z1, z2.pk ks.1⟩
  · show (eRk E ++ [rk]).length ≤ 10
    rw [List.length_append, List.length_singleton]; omega
theorem PE.addPt {G : GP} {y y' : HS} {D D' : LM} {K K' : Nat → Nat} {e : Nat} {E : Ed} {nn : Nat} {g : EG} {gA : Nat → List Cn} {xs : List (Option Nat)} {r : Option Nat} {pt : Pt9} (h : PE G y D K e E nn g gA) (hl : D (gLs g).2.2.1 = some xs) (ha : All2 (ptR y (Df K D)) xs (ePt E)) (ks : PKs y y') (kf : KF y D y' D') (kd : KD 3 D K D' K') (hl' : D' (gLs g).2.2.1 = some (xs ++ [r])) (hr : ptR y' (Df K' D') r pt) (h10 : (ePt E).length < 10) : PE G y' D' K' e (uPt E (ePt E ++ [pt])) nn g gA := by
  obtain ⟨h1, h2, h3, h4, h5, h6, h7, h8⟩ := h
  have hK := h3.st h1 h4 kd (by decide)
  refine ⟨?_, h2.st ks.1 (fun r fs _ => ks.k11 r fs) (kd.df (by decide)) kf.one, hK, (kd _ _ h4 (by rw [h3.1]; omega)).2 (by rw [h3.1]; omega), h5, h6, h7, fun k a b => chP.st (by omega) (h8 k a b) ks kd (by omega) rfl rfl (fun _ _ _ z => z)⟩
  obtain ⟨c1, ⟨ys, b1, b2⟩, -, ⟨gn, d1, d2, d3⟩, ⟨gw, f1, f2⟩, f3, f4, f5⟩ := h1
  refine ⟨ks.2.1 _ _ c1 (Or.inl ⟨_, rfl⟩), ⟨ys, (kd _ _ b1 (by rw [h3.2.1]; omega)).2 (by rw [h3.2.1]; omega), All2.imp b2 (fun _ _ z => z.pk ks.1)⟩, ⟨_, hl', All2.snoc (All2.imp ha (fun _ _ z => z.pk ks.1 (kd.df (by decide)))) hr⟩, ⟨gn, ks.2.1 _ _ d1 (Or.inr (Or.inr (Or.inl ⟨_, _, rfl⟩))), fun i hi => ?_, d3⟩, ⟨gw, ks.2.1 _ _ f1 (Or.inr (Or.inr (Or.inr (Or.inl ⟨_, _, rfl⟩)))), f2⟩, f3, ?_, f5⟩
  · obtain ⟨q, z1, z2⟩ := d2 i hi
    exact ⟨q, z1, z2.pk ks.1⟩
  · show (ePt E ++ [pt]).length ≤ 10
    rw [List.length_append, List.length_singleton]; omega
/-- what a line leaves behind -/
def LQ (G : GP) (y0 : HS) (n0 : Nat) (R e X tp ln : Nat) (bs : List Nat) (q : PS) (D : LM) (K : Nat → Nat) (g : EG) (gA : Nat → List Cn) (y' : HS) : Prop := ∃ (op : Nat) (ch : Option Nat) , PX G y0 n0 y' R e X tp op ln ch bs q (ndL q) D K g gA
theorem px_rank {G : GP} {y0 : HS} {n0 : Nat} {y : HS} {R e X tp op ln B : Nat} {ch : Option Nat} {bs : List Nat} {s : PS} {D : LM} {K : Nat → Nat} {g : EG} {gA : Nat → List Cn} {post : HS → Prop} {xp : Nat → Nat → HS → Prop} (hG : GK G) (h : PX G y0 n0 y R e X tp op ln ch bs s (ndL s) D K g gA) (hw : isW s 15 = true) (hBo : ∀ q, pRank bs s = .ok q → mu bs q ≤ mu bs s + B) (hBe : ∀ f, pRank bs s = .error f → 5 * bs.length + 72 ≤ mu bs s + B)
    (hp : ∀ y' q D', pRank bs s = .ok q → PX G y0 n0 y' R e X tp op ln ch bs q (ndL q) D' K g gA → post y') (hx : ∀ f q y', pRank bs s = .error f → XF G R ln f n0 y0 6 q y' → xp 6 q y') : wp_X6_rank G B post xp y R := by
  have ht := h.1.2.1
  have hlw := isW_p ht.b hw
  have l15 : (wd 15).length = 4 := by decide
  have c0 := cN_mu5 ht
  have m0 := mu_le ht
  have m1 := mu_le ht.nxt
  obtain ⟨hP1, hP2, hP3⟩ := id h
  obtain ⟨⟨c1, ⟨xs, l1, l2⟩, -, -, -, b10, -⟩, -, hK, -⟩ := id hP3
  obtain ⟨fsL, hfL⟩ := hP2.1.cell l1
  obtain ⟨tk, cR⟩ := hP1.cell
  have hlen := l2.1
  refine ⟨fun y' u b r => y' = y ∧ u = 0 ∧ b = decide ((eRk (pE s)).length < 10) ∧ r = some R, ?_, _, ⟨_, cR, rfl⟩, e, rfl, _, ⟨_, c1, rfl⟩, (gLs g).2.1, rfl, ⟨fsL, Or.inl hfL⟩, hP2.1.size l1 ?_⟩
  · rintro y3 u6 b4 r5 ⟨rfl, rfl, rfl, rfl⟩
    by_cases h10 : (eRk (pE s)).length < 10
    · have e0 : pRank bs s = bnd (pSpan bs true false (nxt bs s)) (fun r => bnd (pNum bs 1 9 r.2) (fun q => .ok (sEd q.2 (uRk (pE q.2) (eRk (pE q.2) ++ [(r.1, q.1)]))))) := by
        unfold pRank
        rw [if_neg (by omega)]
      rw [decide_eq_true h10]
      refine ⟨Nat.zero_le _, R, rfl, h.rdr, 0, by omega, xp_must hP1 (fun hb => by cases hb) (fun _ => ⟨h.rdr, cN bs (pP s), ?_, px_nxt h (Nat.le_refl _) (fun y11 P11 Q11 _ => ⟨P11.rdr, ?_⟩)⟩) (fun hb => by cases hb)⟩
      · cases hr : pRank bs s with
        | error f => have := hBe f hr; omega
        | ok q =>
          have hB := hBo q hr
          rw [e0] at hr
          cases hc : pSpan bs true false (nxt bs s) with
          | error f => rw [hc] at hr; cases hr
          | ok v =>
            rw [hc] at hr
            obtain ⟨t2, k2, -⟩ := pSpan_mu ht.nxt hc
            cases hn : pNum bs 1 9 v.2 with
            | error f => have hr' : bnd (pNum bs 1 9 v.2) _ = Except.ok q := hr; rw [hn] at hr'; cases hr'
            | ok w =>
              have hr' : bnd (pNum bs 1 9 v.2) _ = Except.ok q := hr
              rw [hn] at hr'
              obtain ⟨t3, k3, -⟩ := pNum_mu t2 hn
              cases hr'
              have hB' : mu bs w.2 ≤ mu bs s + B := hB
              omega
      · cases hc : pSpan bs true false (nxt bs s) with
        | error f =>
          have eS : pRank bs s = .error f := by rw [e0, hc]; rfl
          have hB := hBe f eS
          refine ⟨B - cN bs (pP s), by omega, px_span (o := true) hG P11 rfl (fun v hv => ?_) (fun _ _ => by omega) (fun y' q v hv => ?_) (fun f' q y' hf hF => ?_)⟩
          · rw [hc] at hv; cases hv
          · rw [hc] at hv; cases hv
          · rw [hc] at hf; cases hf; exact hx f q y' eS hF
        | ok v =>
          obtain ⟨t2, k2, p2⟩ := pSpan_mu ht.nxt hc
          have m2 := mu_le t2
          have c2 := cN_mu5 t2
          have e2 : pRank bs s = bnd (pNum bs 1 9 v.2) (fun q => .ok (sEd q.2 (uRk (pE q.2) (eRk (pE q.2) ++ [(v.1, q.1)])))) := by rw [e0, hc]; rfl
          have hbud : (∃ f, pNum bs 1 9 v.2 = .error f ∧ 5 * bs.length + 72 ≤ mu bs s + B) ∨ (∃ w, pNum bs 1 9 v.2 = .ok w ∧ cN bs (pP v.2) + mu bs v.2 + 3 ≤ mu bs s + B) := by
            cases hn : pNum bs 1 9 v.2 with
            | error f => exact Or.inl ⟨f, rfl, hBe f (by rw [e2, hn]; rfl)⟩
            | ok w =>
              obtain ⟨t3, k3, ew⟩ := pNum_mu t2 hn
              have hB : mu bs w.2 ≤ mu bs s + B := hBo (sEd w.2 (uRk (pE w.2) (eRk (pE w.2) ++ [(v.1, w.1)]))) (by rw [e2, hn]; rfl)
              exact Or.inr ⟨w, rfl, by omega⟩
          have hb3 : mu bs v.2 + 3 ≤ mu bs s + B := by
            rcases hbud with ⟨f, -, z⟩ | ⟨w, -, z⟩ <;> omega
          refine ⟨mu bs v.2 - mu bs (nxt bs s), by omega, px_span (o := true) hG P11 rfl (fun v' hv => ?_) (fun f hf => ?_) (fun y14 q v' hv P14 Q14 hq14 c14 => ?_) (fun f' q y' hf hF => ?_)⟩
          · rw [hc] at hv; cases hv; omega
          · rw [hc] at hf; cases hf
          · rw [hc] at hv
            cases hv
            obtain ⟨tk14, cR14⟩ := P14.1.cell
            obtain ⟨⟨ce14, ⟨xs14, l14, a14⟩, -⟩, -⟩ := id P14.2.2
            refine ⟨_, ⟨_, cR14, rfl⟩, e, rfl, _, ⟨_, ce14, rfl⟩, by omega, ?_⟩
            rintro a22 rfl y21 hy21
            have P21 : PX G y0 n0 y21 R e X tp op ln ch bs v.2 (ndL s) D K g gA := by rw [hy21]; exact P14.nw
            have q21 : y21.1 y14.2 = some (ob 9 [va_rf none, .int 0]) := by rw [hy21, hnew_at]
            have s21 : y21.1 q = some (ob 8 [.int v.1.1, .int v.1.2]) := by rw [hy21, hnew_ne (Nat.ne_of_lt (P14.1.wf.lt c14))]; exact c14
            have n14 : n0 ≤ y14.2 := P14.1.2.2.2.2
            refine ⟨P21.rdr, ?_⟩
            rcases hbud with ⟨f, hn, hB⟩ | ⟨w, hn, hB⟩
            · have eE : pRank bs s = .error f := by rw [e2, hn]; rfl
              refine ⟨61, by omega, px_number P21 (by decide) (fun v' hv => ?_) (fun _ _ => Nat.le_refl _) (fun y' hv => ?_) (fun f' q' y' hf hF => ?_)⟩
              · rw [hn] at hv; cases hv
              · rw [hn] at hv; cases hv
              · rw [hn] at hf; cases hf; exact hx f q' y' eE hF
            · refine ⟨cN bs (pP v.2), by omega, px_number P21 (by decide) (fun _ _ => Nat.le_refl _) (fun f hf => ?_) (fun y23 e23 P23 Q23 => ?_) (fun f' q' y' hf hF => ?_)⟩
              · rw [hn] at hf; cases hf
              · have q23 := Q23.kO q21 (by decide) (by decide)
                have s23 := Q23.kO s21 (by decide) (by decide)
                refine xl_rank2 q23 (fun y27 q27 f27 n27 => ?_)
                obtain ⟨P27, F27⟩ := P23.pu q23 (by decide) n14 f27 q27 n27
                have hne : q ≠ y14.2 := Nat.ne_of_lt (P14.1.wf.lt c14)
                have s27 : y27.1 q = some (ob 8 [.int v.1.1, .int v.1.2]) := (f27 q hne).trans s23
                have r27 : rkR y27 (some y14.2) (v.1, nI (pNm v.2)) := ⟨y14.2, some q, rfl, q27, q, rfl, s27⟩
                obtain ⟨⟨-, ⟨xs27, l27, a27⟩, -⟩, -⟩ := id P27.2.2
                obtain ⟨fs27, hf27⟩ := P27.2.1.1.cell l27
                have hE : pE (nxt bs v.2) = pE s := by show v.2.2.1 = s.2.1; rw [p2]; rfl
                have hl27 : xs27.length < 10 := by
                  rw [a27.1]
                  show (eRk (pE (nxt bs v.2))).length < 10
                  rw [hE]; exact h10
                have hg : gco xs27.length ≤ 1 := by
                  unfold gco
                  split
                  · exact Nat.le_refl _
                  · first | omega | (rw [if_pos hl27]; omega)
                refine ⟨_, rfl, ⟨fs27, Or.inl hf27⟩, 1, by omega, P27.2.1.add P27.1.2.2.2.2 l27 (by omega) (fun z hz => by cases hz; exact ⟨9, _, by decide, Or.inl q27⟩) hg (fun y29 v29 k29 cl29 n29 kf29 b29 => ?_)⟩
                refine hp y29 (sEd (nxt bs v.2) (uRk (pE (nxt bs v.2)) (eRk (pE (nxt bs v.2)) ++ [(v.1, nI (pNm v.2))]))) _ (by rw [e2, e23]; rfl) ⟨P27.1.kp rfl v29.1.1 k29 b29 n29, v29, ?_⟩
                have hnd : ndL s = ndL (nxt bs v.2) := by show (eNd (pE s)).length = (eNd (pE (nxt bs v.2))).length; rw [hE]
                have := PE.addRk P27.2.2 l27 a27 k29 kf29 r27 (by rw [← a27.1]; exact hl27)
                rw [hnd] at this
                exact this
              · rw [hn] at hf; cases hf
          · rw [hc] at hf; cases hf
    · have eE : pRank bs s = er s 4 := by
        unfold pRank
        rw [if_pos (by omega)]
      have hB := hBe _ eE
      rw [decide_eq_false h10]
      exact ⟨Nat.zero_le _, R, rfl, h.rdr, 1, by omega, xp_must hP1 (fun _ => Nat.le_refl _) (fun hb => by cases hb) (fun _ q' y' hF => hx _ q' y' eE hF)⟩
  · rw [hlen]
    refine ⟨fun hge => ⟨rfl, rfl, ?_, rfl⟩, fun hlt => ⟨rfl, rfl, ?_, rfl⟩⟩
    · have : 10 ≤ (eRk (pE s)).length := (nI_leI (by omega) (by omega)).mp hge
      exact (decide_eq_false (by omega)).symm
    · have : ¬ 10 ≤ (eRk (pE s)).length := fun z => hlt (nI_le z (by omega))
      exact (decide_eq_true (by omega)).symm
