/-! The component's reader: trees of chapters, lines -/
set_option maxRecDepth 100000
/-- the conditions of the tree of the chapter c are asked by the atoms A -/
def trk (E : Ed) (A : List Cn) (c : Nat) : Prop := AIx A ∧ ∃ b t, t ≤ (eCn E).length ∧ (∀ (n : Nat) (x : Nd), (eNd E)[n]? = some x → x.2.2.2.2 = c → x.1 < 0 → b ≤ x.2.1 ∧ x.2.1 < t) ∧ ∀ (i : Nat) (k : Cn), b ≤ i → i < t → (eCn E)[i]? = some k → (k.1 ≤ 1 → b ≤ ix k.2.1 ∧ b ≤ ix k.2.2.1) ∧ (k.1 = 2 → b ≤ ix k.2.1) ∧ (3 ≤ k.1 → (atF k.1 A)[k.2.2.2]? = some k)
/-- the state between lines -/
def LXs (G : GP) (y0 : HS) (n0 : Nat) (R e X tp ln : Nat) (bs : List Nat) (y : HS) (s : PS) (D : LM) (K : Nat → Nat) (g : EG) (gA : Nat → List Cn) : Prop := (∃ op ch, PX G y0 n0 y R e X tp op ln ch bs s (ndL s) D K g gA) ∧ LIe (pE s) ∧ 3 * cnL s ≤ pAt s ∧ (n0 ≤ e ∧ n0 ≤ (gLs g).2.2.2.2.2.1 ∧ n0 ≤ (gLs g).2.2.2.2.2.2) ∧ (∀ (k : Nat) (c : Ch), (eCh (pE s))[k]? = some c → c.2.2 = -1 → gA k = []) ∧ (∀ (k : Nat) (c : Ch), (eCh (pE s))[k]? = some c → 0 ≤ c.2.2 → trk (pE s) (gA k) k) ∧ (∀ n, n < ndL s → ∃ d, gNR g d (gNa g n) n) ∧ (∀ c, c ∈ gXc g → n0 ≤ c) ∧ ∀ d r n, gNR g d r n → n0 ≤ r
theorem LXs.up {G : GP} {y0 : HS} {n0 : Nat} {R e X tp ln : Nat} {bs : List Nat} {y y' : HS} {s q : PS} {D D' : LM} {K K' : Nat → Nat} {g g' : EG} {gA gA' : Nat → List Cn} {op : Nat} {ch : Option Nat} (h : LXs G y0 n0 R e X tp ln bs y s D K g gA) (h9b : bs.length ≤ 900) (hb : tkB bs s.1) (hk0 : pK s ≠ 0) (hK : pKind bs s = .ok q) (P : PX G y0 n0 y' R e X tp op ln ch bs q (ndL q) D' K' g' gA') (e1 : eNd (pE q) = eNd (pE s)) (e2 : eCn (pE q) = eCn (pE s)) (hch : ∀ (k : Nat) (c : Ch), (eCh (pE q))[k]? = some c → ((eCh (pE s))[k]? = some c ∧ gA' k = gA k) ∨ (c.2.2 = -1 ∧ gA' k = [])) (g1 : gNR g' = gNR g) (g2 : gNa g' = gNa g) (g3 : gLs g' = gLs g) (g4 : ∀ c, c ∈ gXc g' → c ∈ gXc g ∨ n0 ≤ c) : LXs G y0 n0 R e X tp ln bs y' q D' K' g' gA' := by
  obtain ⟨-, h2, h3, h4, h5, h6, h7, h8, h9⟩ := h
  have h40 : ndL s ≤ 40 := by obtain ⟨ct, -, -, -, -, -, -, -, -, -, z⟩ := h2; exact z
  obtain ⟨l1, l2, l3, l4⟩ := pKind_lg hb h40 hk0 hK
  refine ⟨⟨op, ch, P⟩, pKind_li h9b hb h3 h2 hK, by omega, by rw [g3]; exact h4, fun k c hc z => ?_, fun k c hc z => ?_, fun n hn => ?_, fun c hc => (g4 c hc).elim (h8 c) id, fun d r n z => by rw [g1] at z; exact h9 d r n z⟩
  · rcases hch k c hc with ⟨w1, w2⟩ | ⟨w1, w2⟩
    · rw [w2]; exact h5 k c w1 z
    · exact w2
  · rcases hch k c hc with ⟨w1, w2⟩ | ⟨w1, w2⟩
    · rw [w2]
      unfold trk
      rw [e1, e2]
      exact h6 k c w1 z
    · rw [w1] at z; exact absurd z (by decide)
  · rw [g1, g2]
    refine h7 n ?_
    show n < (eNd (pE s)).length
    rw [← e1]; exact hn
theorem pRank_E {bs : List Nat} {s q : PS} (h : pRank bs s = .ok q) : ∃ l, pE q = uRk (pE s) l := by
  unfold pRank at h
  split at h
  · cases h
  · obtain ⟨r, h1, h2⟩ := bnd_ok h
    obtain ⟨v, h3, h4⟩ := bnd_ok h2
    cases h4
    have a3 := (pSpan_ok (sp := r.1) (s' := r.2) h1).1
    have b3 := (pNum_ok (v := v.1) (s' := v.2) h3).1
    have e : pE v.2 = pE s := by show v.2.2.1 = s.2.1; rw [b3, a3]; rfl
    exact ⟨_, by show uRk (pE v.2) _ = _; rw [e]⟩
theorem pPartner_E {bs : List Nat} {s q : PS} (ht : isTok bs s.1) (h : pPartner bs s = .ok q) : ∃ l, pE q = uPt (pE s) l := by
  unfold pPartner at h
  split at h
  · cases h
  · obtain ⟨r, h1, h2⟩ := bnd_ok h
    obtain ⟨v, h3, h4⟩ := bnd_ok h2
    have t1 := (pSpan_mu ht.nxt h1).1
    have t2 := (pNum_mu t1 h3).1
    have a3 := (pSpan_ok (sp := r.1) (s' := r.2) h1).1
    have b3 := (pNum_ok (v := v.1) (s' := v.2) h3).1
    have e : pE v.2 = pE s := by show v.2.2.1 = s.2.1; rw [b3, a3]; rfl
    have h4' : (if isW v.2 2 = true then bnd (pSpans bs 4 [] (nxt bs v.2)) (fun u => .ok (sEd u.2 (uPt (pE u.2) (ePt (pE u.2) ++ [(r.1, v.1, u.1)])))) else .ok (sEd v.2 (uPt (pE v.2) (ePt (pE v.2) ++ [(r.1, v.1, [])])))) = Except.ok q := h4
    split at h4'
    · obtain ⟨u, u1, u2⟩ := bnd_ok h4'
      have z3 := (pSpans_mu _ _ _ _ t2.nxt (by decide) u1).2.2.1
      cases u2
      have e' : pE u.2 = pE s := by show u.2.2.1 = s.2.1; rw [z3]; exact e
      exact ⟨_, by show uPt (pE u.2) _ = _; rw [e']⟩
    · cases h4'
      exact ⟨_, by show uPt (pE v.2) _ = _; rw [e]⟩
theorem pChapter_E {bs : List Nat} {s q : PS} (ht : isTok bs s.1) (h : pChapter bs s = .ok q) : ∃ c : Ch, pE q = uCh (pE s) (eCh (pE s) ++ [c]) ∧ c.2.2 = -1 := by
  unfold pChapter at h
  split at h
  · cases h
  · split at h
    · cases h
    · split at h
      · cases h
      · obtain ⟨u, u1, u2⟩ := bnd_ok h
        have z3 := (pSpans_mu _ _ _ _ ht.nxt.nxt (by decide) u1).2.2.1
        cases u2
        have e' : pE u.2 = pE s := by show u.2.2.1 = s.2.1; rw [z3]; rfl
        exact ⟨(pW (nxt bs s), u.1, -1), by show uCh (pE u.2) _ = _; rw [e'], rfl⟩
/-- a chapter gets its tree -/
theorem PX.tree {G : GP} {y0 : HS} {n0 : Nat} {y : HS} {R e X tp op ln cq q r tc : Nat} {ch : Option Nat} {bs : List Nat} {s : PS} {nn : Nat} {D : LM} {K : Nat → Nat} {g : EG} {gA : Nat → List Cn} {nm v1 v2 v3 v4 : Value} {c : Ch} (h : PX G y0 n0 y R e X tp op ln ch bs s nn D K g gA) (hn : n0 ≤ cq) (hcq : (gXc g)[tc]? = some cq) (hc : (eCh (pE s))[tc]? = some c) (hcell : y.1 cq = some (ob 7 [nm, v1, v2, v3, v4])) (hN : gNR g 11 q r) (hr : r < 1000) : PX G y0 n0 (hput y cq (ob 7 [nm, v1, va_rf (some q), v3, v4])) R e X tp op ln ch bs (sEd s (uCh (pE s) ((eCh (pE s)).set tc (c.1, c.2.1, nI r)))) nn D K g gA := by
  obtain ⟨a1, a2, a3⟩ := h
  obtain ⟨⟨c1, c2, c3, ⟨gn, d1, d2, d3⟩, ⟨gw, f1, f2⟩, c5⟩, pT, pK, p4, p5, p6, p7, p8⟩ := id a3
  have h1 : ∀ b, b ≠ cq → (hput y cq (ob 7 [nm, v1, va_rf (some q), v3, v4])).1 b = y.1 b := fun b hb => hput_ne hb
  have hw := a1.wf
  have w' : WF G (hput y cq (ob 7 [nm, v1, va_rf (some q), v3, v4])) := hw.put hcell
  have hne : ∀ b x, y.1 b = some x → (∀ fs, x ≠ ob 7 fs) → (hput y cq (ob 7 [nm, v1, va_rf (some q), v3, v4])).1 b = some x := fun b x hb hx => by
    rw [h1 b (fun ee => by rw [ee, hcell] at hb; exact hx _ (Option.some.inj hb).symm)]
    exact hb
  have hls : ∀ b e, y.1 b = some e → isLs e = true → (hput y cq (ob 7 [nm, v1, va_rf (some q), v3, v4])).1 b = some e := fun b x hb hx => hne b x hb (fun gs z => by subst z; cases hx)
  have hcl : Cls y (hput y cq (ob 7 [nm, v1, va_rf (some q), v3, v4])) := Cls.put hcell
  have kw : PKw y (hput y cq (ob 7 [nm, v1, va_rf (some q), v3, v4])) := fun b x hb hx => hne b x hb (fun gs z => by
    subst z
    rcases hx with ⟨c', v, gs', z1, z2, -⟩ | ⟨u1, u2, u3, u4, z1, -⟩ | ⟨t, n, g', z1, -⟩
    · have := (ob_inj.mp z1).1
      omega
    · exact absurd (ob_inj.mp z1).1 (by decide)
    · exact ob_ne_ai z1)
  have sw : SW y (hput y cq (ob 7 [nm, v1, va_rf (some q), v3, v4])) := fun b z h0 zz hb => ⟨h0, zz, hne b _ hb (fun _ => ob_ne (by decide))⟩
  have hkf : KF y D (hput y cq (ob 7 [nm, v1, va_rf (some q), v3, v4])) D := KF.step hls (fun a xs hd => a2.1.cell hd)
  have htl : tc < (gXc g).length := (List.getElem?_eq_some_iff.mp hcq).1
  have hcl2 : tc < (eCh (pE s)).length := (List.getElem?_eq_some_iff.mp hc).1
  have hcqe : (gXc g)[tc] = cq := by rw [List.getElem?_eq_getElem htl] at hcq; exact Option.some.inj hcq
  have hce : (eCh (pE s))[tc] = c := by rw [List.getElem?_eq_getElem hcl2] at hc; exact Option.some.inj hc
  refine ⟨a1.mv rfl w' (fun b x hb hx => hne b x hb (fun gs z => ?_)) (fun a ha => h1 a (by omega)) (Nat.le_refl _), a2.step w' hls hcl, ⟨hne _ _ c1 (fun _ => ob_ne (by decide)), ?_, ?_, ⟨gn, hne _ _ d1 (fun _ => ar_ne_ob), fun k hk => ?_, d3⟩, ⟨gw, hne _ _ f1 (fun _ => ai_ne_ob), f2⟩, c5⟩, pT.st kw (fun r fs _ hr => hne _ _ hr (fun _ => ob_ne (by decide))) (fun _ _ z => z) hkf.one, pK, p4, p5, ?_, ?_, fun k a b => ?_⟩
  · subst z
    rcases hx with ⟨c', gs', z1, z2⟩ | ⟨n, g', z1⟩
    · obtain ⟨rfl, -⟩ := ob_inj.mp z1
      omega
    · exact ob_ne_ai z1
  · obtain ⟨xs, z1, z2⟩ := c2
    exact ⟨xs, z1, All2.imp z2 (fun _ _ z => z.pk kw)⟩
  · obtain ⟨xs, z1, z2⟩ := c3
    exact ⟨xs, z1, All2.imp z2 (fun _ _ z => z.pk kw (fun _ _ z => z))⟩
  · obtain ⟨q, z1, z2⟩ := d2 k hk
    exact ⟨q, z1, z2.pk kw⟩
  · show (gXc g).length = ((eCh (pE s)).set tc _).length
    rw [List.length_set]; exact p6
  · show ((eCh (pE s)).set tc _).length ≤ 6
    rw [List.length_set]; exact p7
  · have a' : k < (eCh (pE s)).length := by
      have a2 : k < ((eCh (pE s)).set tc (c.1, c.2.1, nI r)).length := a
      rw [List.length_set] at a2
      exact a2
    obtain ⟨nm9, l, la, ll, tr, q1, q2, q3, q4, q5, ⟨xs, q6, q7⟩, q8, q9⟩ := p8 k a' b
    by_cases hk : k = tc
    · subst hk
      have e1 : ((eCh (pE s)).set k (c.1, c.2.1, nI r))[k]'a = (c.1, c.2.1, nI r) := List.getElem_set_self a
      rw [hcqe, hcell] at q1
      have eq := (ob_inj.mp (Option.some.inj q1)).2
      injection eq with r1 eq
      injection eq with r2 eq
      injection eq with r3 eq
      injection eq with r4 eq
      injection eq with r5 eq
      subst r1 r2 r4 r5
      show chP G _ D K g gA _ k _ (((eCh (pE s)).set k (c.1, c.2.1, nI r))[k]'a)
      rw [e1, hcqe]
      rw [hce] at q2 q3
      refine ⟨nm9, l, la, ll, some q, hput_at _ _ _, q2.pk2 kw sw, q3.pk kw (fun _ _ z => z), q4, q5, ⟨xs, q6, All2.imp q7 (fun r x z => ?_)⟩, q8, Or.inr ⟨q, rfl, nI_le (a := 0) (Nat.zero_le _) (by omega), ?_⟩⟩
      · obtain ⟨q2, z1, z2⟩ := z
        exact ⟨q2, z1, z2.pk kw⟩
      · show gNR g 11 q (ix (nI r))
        rw [show ix (nI r) = r from nI_clamp (by omega)]
        exact hN
    · have e1 : ((eCh (pE s)).set tc (c.1, c.2.1, nI r))[k]'a = (eCh (pE s))[k] := List.getElem_set_ne (fun z => hk z.symm) a
      have hneq : (gXc g)[k] ≠ cq := fun z => hk ((List.getElem_inj p5).mp (z.trans hcqe.symm))
      show chP G _ D K g gA _ k _ (((eCh (pE s)).set tc (c.1, c.2.1, nI r))[k]'a)
      rw [e1]
      refine ⟨nm9, l, la, ll, tr, (h1 _ hneq).trans q1, q2.pk2 kw sw, q3.pk kw (fun _ _ z => z), q4, q5, ⟨xs, q6, All2.imp q7 (fun r x z => ?_)⟩, q8, q9⟩
      obtain ⟨q2, z1, z2⟩ := z
      exact ⟨q2, z1, z2.pk kw⟩
