/-! The component's reader: one condition, and the negation of one -/
set_option maxRecDepth 100000
/-- the negation's parse -/
def pNot (bs : List Nat) (rc : Option (PS → Except Nat (Nat × PS))) (s : PS) : Except Nat (Nat × PS) := match rc with
  | none => er s 4
  | some r => bnd (r (nxt bs s)) (fun q => .ok (nwC q.2 (2, nI q.1, -1, 0)))
def pPar (bs : List Nat) (rc : Option (PS → Except Nat (Nat × PS))) (s : PS) : Except Nat (Nat × PS) := match rc with
  | none => er s 4
  | some r => pClose bs (pCondB bs r (nxt bs s))
theorem isW_ne {s : PS} {k j : Nat} (h : isW s k = true) (hj : wd k ≠ wd j) : isW s j = false := decide_eq_false (fun z => hj ((of_decide_eq_true h).2.symm.trans z.2))
theorem isW_S {s : PS} {k c : Nat} (h : isW s k = true) : isS s c = false := decide_eq_false (fun z => by
  have h1 := (of_decide_eq_true h).1
  have h2 := z.1
  omega)
theorem isS_W {s : PS} {k c : Nat} (h : isS s c = true) : isW s k = false := decide_eq_false (fun z => by
  have h1 := (of_decide_eq_true h).1
  have h2 := z.1
  omega)
theorem nz {b : Bool} (h : b = false) : ¬ b = true := by rw [h]; decide
theorem pOne_not {bs : List Nat} {rc : Option (PS → Except Nat (Nat × PS))} {s : PS} (h : isW s 12 = true) : pOneB bs rc s = pNot bs rc s := by
  unfold pOneB pNot
  rw [if_pos h]
  cases rc <;> rfl
theorem pOne_par {bs : List Nat} {rc : Option (PS → Except Nat (Nat × PS))} {s : PS} (h : isS s 40 = true) : pOneB bs rc s = pPar bs rc s := by
  unfold pOneB pPar
  rw [if_neg (by rw [isS_W h]; decide), if_pos h]
  cases rc <;> rfl
theorem pOne_at {bs : List Nat} {rc : Option (PS → Except Nat (Nat × PS))} {s : PS} {w : Nat} (h1 : 3 ≤ w) (h2 : w ≤ 9) (h : isW s (wi w) = true) : pOneB bs rc s = (if w < 6 then pSpanC bs w s else pComp bs w s) := by
  have hS : isS s 40 = false := isW_S h
  have no : ∀ j, wd (wi w) ≠ wd j → ¬ isW s j = true := fun j hj z => by rw [isW_ne h hj] at z; cases z
  unfold pOneB
  rcases (by omega : w = 3 ∨ w = 4 ∨ w = 5 ∨ w = 6 ∨ w = 7 ∨ w = 8 ∨ w = 9) with rfl | rfl | rfl | rfl | rfl | rfl | rfl
  · rw [if_neg (no 12 (by decide)), if_neg (by rw [hS]; decide), if_pos (show isW s 8 = true from h)]; rfl
  · rw [if_neg (no 12 (by decide)), if_neg (by rw [hS]; decide), if_neg (no 8 (by decide)), if_pos (show isW s 11 = true from h)]; rfl
  · rw [if_neg (no 12 (by decide)), if_neg (by rw [hS]; decide), if_neg (no 8 (by decide)), if_neg (no 11 (by decide)), if_pos (show isW s 6 = true from h)]; rfl
  · rw [if_neg (no 12 (by decide)), if_neg (by rw [hS]; decide), if_neg (no 8 (by decide)), if_neg (no 11 (by decide)), if_neg (no 6 (by decide)), if_pos (show isW s 0 = true from h)]; rfl
  · rw [if_neg (no 12 (by decide)), if_neg (by rw [hS]; decide), if_neg (no 8 (by decide)), if_neg (no 11 (by decide)), if_neg (no 6 (by decide)), if_neg (no 0 (by decide)), if_pos (show isW s 5 = true from h)]; rfl
  · rw [if_neg (no 12 (by decide)), if_neg (by rw [hS]; decide), if_neg (no 8 (by decide)), if_neg (no 11 (by decide)), if_neg (no 6 (by decide)), if_neg (no 0 (by decide)), if_neg (no 5 (by decide)), if_pos (show isW s 10 = true from h)]; rfl
  · rw [if_neg (no 12 (by decide)), if_neg (by rw [hS]; decide), if_neg (no 8 (by decide)), if_neg (no 11 (by decide)), if_neg (no 6 (by decide)), if_neg (no 0 (by decide)), if_neg (no 5 (by decide)), if_neg (no 10 (by decide)), if_pos (show isW s 18 = true from h)]; rfl
theorem pOne_er {bs : List Nat} {rc : Option (PS → Except Nat (Nat × PS))} {s : PS} (hS : isS s 40 = false) (h12 : isW s 12 = false) (h : ∀ w, 3 ≤ w → w ≤ 9 → isW s (wi w) = false) : pOneB bs rc s = er s 1 := by
  unfold pOneB
  rw [if_neg (by rw [h12]; decide), if_neg (by rw [hS]; decide), if_neg (nz (show isW s 8 = false from h 3 (by decide) (by decide))), if_neg (nz (show isW s 11 = false from h 4 (by decide) (by decide))), if_neg (nz (show isW s 6 = false from h 5 (by decide) (by decide))), if_neg (nz (show isW s 0 = false from h 6 (by decide) (by decide))), if_neg (nz (show isW s 5 = false from h 7 (by decide) (by decide))), if_neg (nz (show isW s 10 = false from h 8 (by decide) (by decide))), if_neg (nz (show isW s 18 = false from h 9 (by decide) (by decide)))]
theorem pSpanC_mu {bs : List Nat} {w : Nat} {s : PS} {v : Nat × PS} (ht : isTok bs s.1) (hw : 3 ≤ w ∧ w ≤ 9) (hs : isW s (wi w) = true) (h : pSpanC bs w s = .ok v) : isTok bs v.2.1 ∧ mu bs s + 15 ≤ mu bs v.2 := by
  have hl := wi_len w hw.1 hw.2
  have lw := isW_p ht.b hs
  have c0 := mu_nxt ht
  refine ⟨?_, ?_⟩
  · obtain ⟨r, r1, r2⟩ := bnd_ok h
    rw [(pAtom_A r2).2.2.2.1]
    exact (pSpan_mu ht.nxt r1).1
  · obtain ⟨r, r1, r2⟩ := bnd_ok h
    rw [mu_eq (pAtom_A r2).2.2.2.1]
    have := (pSpan_mu ht.nxt r1).2.1
    omega
theorem pComp_mu {bs : List Nat} {w : Nat} {s : PS} {v : Nat × PS} (ht : isTok bs s.1) (hw : 3 ≤ w ∧ w ≤ 9) (hs : isW s (wi w) = true) (h : pComp bs w s = .ok v) : isTok bs v.2.1 ∧ mu bs s + 15 ≤ mu bs v.2 := by
  have hl := wi_len w hw.1 hw.2
  have lw := isW_p ht.b hs
  have c0 := mu_nxt ht
  have c1 := mu_nxt ht.nxt
  unfold pComp at h
  split at h
  · cases h
  · next hno =>
    have hk : pK (nxt bs s) = 4 := by
      by_cases z : isS (nxt bs s) 60 = true
      · exact (of_decide_eq_true z).1
      · by_cases z2 : isS (nxt bs s) 62 = true
        · exact (of_decide_eq_true z2).1
        · exact absurd ⟨Bool.eq_false_iff.mpr z, Bool.eq_false_iff.mpr z2⟩ hno
    have h4 : pAt (nxt bs s) + 1 ≤ pP (nxt bs s) := ht.nxt.b.2.2.1 (by show pK (nxt bs s) ≠ 0; omega)
    refine ⟨?_, ?_⟩
    · obtain ⟨r, r1, r2⟩ := bnd_ok h
      rw [(pAtom_A r2).2.2.2.1]
      exact (pNum_mu ht.nxt.nxt r1).1
    · obtain ⟨r, r1, r2⟩ := bnd_ok h
      rw [mu_eq (pAtom_A r2).2.2.2.1]
      have := (pNum_mu ht.nxt.nxt r1).2.1
      omega
theorem pJoin_mu {bs : List Nat} {w op : Nat} {p : PS → Except Nat (Nat × PS)} (hp : PMu bs p) (hl : 2 ≤ (wd w).length) : PMu bs (pJoin bs w op p) := by
  intro s v ht h
  have h0 := h
  obtain ⟨q, q1, q2⟩ := bnd_ok h
  obtain ⟨a1, a2⟩ := hp s q ht q1
  have key : ∀ (f c : Nat) (s2 : PS), isTok bs s2.1 → pChain bs w op p f c s2 = .ok v → isTok bs v.2.1 ∧ mu bs s2 ≤ mu bs v.2 := by
    intro f
    induction f with
    | zero => intro c s2 t2 z; cases z
    | succ f ih =>
      intro c s2 t2 z
      have z' : (if isW s2 w = true then bnd (p (nxt bs s2)) (fun q => pChain bs w op p f (nwC q.2 (op, nI c, nI q.1, 0)).1 (nwC q.2 (op, nI c, nI q.1, 0)).2) else .ok (c, s2)) = Except.ok v := z
      split at z'
      · obtain ⟨q, q1, q2⟩ := bnd_ok z'
        obtain ⟨a1, a2⟩ := hp _ _ t2.nxt q1
        obtain ⟨b1, b2⟩ := ih _ _ (show isTok bs (nwC q.2 (op, nI c, nI q.1, 0)).2.1 from a1) q2
        have a4 : mu bs (nwC q.2 (op, nI c, nI q.1, 0)).2 = mu bs q.2 := mu_eq rfl
        have a5 := mu_nxt t2
        exact ⟨b1, by omega⟩
      · cases z'
        exact ⟨t2, Nat.le_refl _⟩
  obtain ⟨b1, b2⟩ := key _ _ _ a1 q2
  exact ⟨b1, by omega⟩
theorem mS_ok {bs : List Nat} {c : Nat} {s s' : PS} (h : pMustS bs c s = .ok s') : s' = nxt bs s ∧ isS s c = true := by
  unfold pMustS at h
  split at h
  · next hs => cases h; exact ⟨rfl, hs⟩
  · cases h
theorem mW_ok {bs : List Nat} {c : Nat} {s s' : PS} (h : pMustW bs c s = .ok s') : s' = nxt bs s ∧ isW s c = true := by
  unfold pMustW at h
  split at h
  · next hs => cases h; exact ⟨rfl, hs⟩
  · cases h
theorem pCondB_mu {bs : List Nat} {r : PS → Except Nat (Nat × PS)} (hr : PMu bs r) : PMu bs (pCondB bs r) := pJoin_mu (pJoin_mu hr (by decide)) (by decide)
theorem pOneB_mu {bs : List Nat} {rc : Option (PS → Except Nat (Nat × PS))} (hr : ∀ r, rc = some r → PMu bs r) : PMu bs (pOneB bs rc) := by
  intro s v ht h
  have c0 := mu_nxt ht
  by_cases h12 : isW s 12 = true
  · rw [pOne_not h12] at h
    cases rc with
    | none => cases h
    | some r =>
      obtain ⟨q, q1, q2⟩ := bnd_ok h
      obtain ⟨a1, a2⟩ := hr r rfl _ _ ht.nxt q1
      cases q2
      have z4 : mu bs (nwC q.2 (2, nI q.1, -1, 0)).2 = mu bs q.2 := mu_eq rfl
      exact ⟨a1, by omega⟩
  · by_cases h40 : isS s 40 = true
    · rw [pOne_par h40] at h
      cases rc with
      | none => cases h
      | some r =>
        obtain ⟨q, q1, q2⟩ := bnd_ok h
        obtain ⟨a1, a2⟩ := pCondB_mu (hr r rfl) _ _ ht.nxt q1
        obtain ⟨s', s1, s2⟩ := bnd_ok q2
        obtain ⟨rfl, -⟩ := mS_ok s1
        cases s2
        have a3 := mu_nxt a1
        exact ⟨a1.nxt, by show mu bs s + 15 ≤ mu bs (nxt bs q.2); omega⟩
    · by_cases hw : ∃ w, 3 ≤ w ∧ w ≤ 9 ∧ isW s (wi w) = true
      · obtain ⟨w, w1, w2, w3⟩ := hw
        rw [pOne_at w1 w2 w3] at h
        split at h
        · exact pSpanC_mu ht ⟨w1, w2⟩ w3 h
        · exact pComp_mu ht ⟨w1, w2⟩ w3 h
      · rw [pOne_er (Bool.eq_false_iff.mpr h40) (Bool.eq_false_iff.mpr h12) (fun w w1 w2 => Bool.eq_false_iff.mpr (fun z => hw ⟨w, w1, w2, z⟩))] at h
        cases h
theorem pO_mu {bs : List Nat} : ∀ d, PMu bs (pO bs d) := by
  intro d
  induction d with
  | zero => exact pOneB_mu (fun r hr => (by cases hr))
  | succ d ih => exact pOneB_mu (fun r hr => (by cases hr; exact ih))
/-- what is known of the parser within -/
def RcI (bs : List Nat) (r : PS → Except Nat (Nat × PS)) : Prop := PMu bs r ∧ (∀ s q, tkB bs s.1 → r s = .ok q → CG bs s q) ∧ ∀ s q, r s = .ok q → CE s q.2
theorem px_not {G : GP} {y0 : HS} {n0 : Nat} {R e X tp ln B : Nat} {bs : List Nat} {tc cq nn op dd : Nat} {rcs : Option (PS → Except Nat (Nat × PS))} {rc : Nat → Nat → (Option Nat → HS → Prop) → (Nat → Nat → HS → Prop) → HS → Nat → (Option Nat) → Prop} {y : HS} {s : PS} {D : LM} {K : Nat → Nat} {g : EG} {gA : Nat → List Cn} {post : Option Nat → HS → Prop} {xp : Nat → Nat → HS → Prop} (h : CX G y0 n0 R e X tp ln bs tc cq nn op y s D K g gA) (hcn : 3 * cnL s ≤ pAt s) (hs : isW s 12 = true) (hsub : (op = 9 ∧ rcs = none) ∨ (op < 9 ∧ ∃ r, rcs = some r ∧ RcI bs r ∧ CSp G y0 n0 R e X tp ln bs tc cq nn (op + 1) dd r (fun B post xp y => rc 2 B post xp y R none))) (hBo : ∀ v, pNot bs rcs s = .ok v → mu bs v.2 ≤ mu bs s + B + 6) (hBe : ∀ f, pNot bs rcs s = .error f → 5 * bs.length + 80 ≤ mu bs s + B)
    (hp : ∀ y' q v D' K' g' gA', pNot bs rcs s = .ok v → CX G y0 n0 R e X tp ln bs tc cq nn op y' v.2 D' K' g' gA' → CExt tc y D K g gA y' D' K' g' gA' → (∀ d, dd + 1 ≤ d → gCR g' d q v.1) → post (some q) y') (hx : ∀ f q y', pNot bs rcs s = .error f → XF G R ln f n0 y0 6 q y' → xp 6 q y') : wb_X6_not G rc B post xp y R := by
  have ht := h.1.1.2.1
  have c0 := cN_mu5 ht
  have lw := isW_p ht.b hs
  have l12 : (wd 12).length = 3 := by decide
  have m0 := mu_le ht
  have m1 := mu_le ht.nxt
  have h900 := h.len.1
  rcases hsub with ⟨h9, rfl⟩ | ⟨h9, r, rfl, ⟨hmu, hcg, hce⟩, hsub⟩
  · have eE : pNot bs none s = er s 4 := rfl
    have hB := hBe _ eE
    exact ⟨h.1.rdr, 1, by omega, px_opens h.1 (by omega) (fun _ => Nat.le_refl _) (fun z => absurd z (by omega)) (fun _ q y' hF => hx _ q y' eE hF)⟩
  · have e0 : pNot bs (some r) s = bnd (r (nxt bs s)) (fun q => .ok (nwC q.2 (2, nI q.1, -1, 0))) := rfl
    have hat : pAt s + 3 ≤ pAt (nxt bs s) := by
      have z1 := (nxt_b ht.b).2
      omega
    have hcn1 : 3 * cnL (nxt bs s) ≤ pAt (nxt bs s) := by
      have : cnL (nxt bs s) = cnL s := rfl
      omega
    have hb : (∃ f, r (nxt bs s) = .error f ∧ 5 * bs.length + 80 ≤ mu bs s + B) ∨ (∃ v, r (nxt bs s) = .ok v ∧ mu bs v.2 ≤ mu bs s + B + 6 ∧ isTok bs v.2.1 ∧ mu bs (nxt bs s) + 15 ≤ mu bs v.2 ∧ CG bs (nxt bs s) v ∧ CE (nxt bs s) v.2) := by
      cases hr : r (nxt bs s) with
      | error f => exact Or.inl ⟨f, rfl, hBe f (by rw [e0, hr]; rfl)⟩
      | ok v =>
        have z := hBo (nwC v.2 (2, nI v.1, -1, 0)) (by rw [e0, hr]; rfl)
        have z4 : mu bs (nwC v.2 (2, nI v.1, -1, 0)).2 = mu bs v.2 := mu_eq rfl
        rw [z4] at z
        exact Or.inr ⟨v, rfl, z, (hmu _ _ ht.nxt hr).1, (hmu _ _ ht.nxt hr).2, hcg _ _ ht.nxt.b hr, hce _ _ hr⟩
    have p0 : cN bs (pP s) + 1 ≤ B := by
      rcases hb with ⟨f, -, z⟩ | ⟨v, -, z, -, z2, -⟩ <;> omega
    refine ⟨h.1.rdr, 0, by omega, px_opens h.1 (by omega) (fun z => absurd z (by omega)) (fun _ y1 P1 Q1 => ⟨P1.rdr, cN bs (pP s), by omega, px_nxt P1 (Nat.le_refl _) (fun y4 P4 Q4 _ => ⟨by omega, ?_⟩)⟩) (fun z => absurd z (by omega))⟩
    rintro a8 rfl y7 hy7
    have P7 : PX G y0 n0 y7 R e X tp (op + 1) ln (some cq) bs (nxt bs s) nn D K g gA := by rw [hy7]; exact P4.nw
    have q7 : y7.1 y4.2 = some (ob 12 [va_rf none, va_rf none]) := by rw [hy7, hnew_at]
    have Q7 : Qs y y7 := (Q1.tr Q4).tr (by rw [hy7]; exact Qs.new P4.1.wf)
    have ho : y.1 y4.2 = none := h.1.1.wf.none (Q1.tr Q4).2
    have n4 : n0 ≤ y4.2 := P4.1.2.2.2.2
    have C7 := h.q P7 rfl
    refine ⟨P7.rdr, ?_⟩
    rcases hb with ⟨f, hr, hB⟩ | ⟨v, hr, hB, t2, m2, ⟨g1, g2, g3, g4⟩, ce⟩
    · refine ⟨B - (cN bs (pP s) + 1), by omega, hsub _ _ xp y7 (nxt bs s) D K g gA C7 hcn1 (fun v hv => ?_) (fun _ _ => by omega) (fun y' q v D' K' g' gA' hv => ?_) (fun f9 q9 y9 hf hF => ?_)⟩
      · rw [hr] at hv; cases hv
      · rw [hr] at hv; cases hv
      · rw [hr] at hf; cases hf; exact hx _ q9 y9 (by rw [e0, hr]; rfl) hF
    · refine ⟨mu bs v.2 - mu bs (nxt bs s) - 6, by omega, hsub _ _ xp y7 (nxt bs s) D K g gA C7 hcn1 (fun v' hv => ?_) (fun f hf => ?_) (fun y9 q v' D9 K9 g9 A9 hv C9 X9 hC9 => ?_) (fun f9 q9 y9 hf hF => ?_)⟩
      · rw [hr] at hv; cases hv; omega
      · rw [hr] at hf; cases hf
      · rw [hr] at hv
        cases hv
        have X7 : CExt tc y D K g gA y7 D K g gA := CExt.q Q7 h.1.2.1.1
        have X79 := X7.tr X9
        have q9 := X9.1.2.1 _ _ _ (by decide) (by decide) q7
        refine ⟨2, by omega, px_jinit C9.1 q9 n4 (C9.1.okC (hC9 dd (Nat.le_refl _))) (Nat.le_refl _) X79.1 ho (fun y13 P13 a13 hT13 B13 F13 => px_close P13 (fun y16 P16 Q16 => ?_))⟩
        have a16 := Q16.kO a13 (by decide) (by decide)
        have P17 := P16.rel (T := y9.2) (u := 0) (by rw [lb_at]; omega)
        have hcl : ix (nI v.1) = v.1 := nI_clamp (by have := C9.len.2; omega)
        have pe := PE.addR (l := [(2, nI v.1, -1, 0)]) (q := y4.2) (dm := dd + 1) (i := (eCn (pE v.2)).length) P17.2.2 (fun d hd => by
          obtain ⟨d', rfl⟩ : ∃ d', d = d' + 1 := ⟨d - 1, by omega⟩
          refine Or.inr (Or.inl ⟨d', y9.2, q, (2, nI v.1, -1, 0), rfl, a16, ?_, ?_, rfl, ?_⟩)
          · rw [Df.at (lb_at _ _ _), up_at]
          · rw [List.getElem?_append_right (Nat.le_refl _), Nat.sub_self]; rfl
          · rw [hcl]
            exact Or.inl (hC9 d' (by omega)))
        refine hp y16 y4.2 (nwC v.2 (2, nI v.1, -1, 0)) _ (lb (lb K9 y9.2 100) y9.2 0) (gCn g9 (nCR g9 (dd + 1) y4.2 (eCn (pE v.2)).length)) A9 (by rw [e0, hr]; rfl) ⟨⟨P17.1, P17.2.1, pe⟩, C9.2⟩ ?_ (fun d hd => Or.inr ⟨hd, rfl, rfl⟩)
        obtain ⟨x1, x2, x3, x4, x5, x6, x7, x8, x9⟩ := X79
        refine ⟨B13.tr Q16.bs, (x2.tr F13).tr (Q16.kf P13.2.1.1), fun l xs hl hk => ?_, fun _ _ _ z => Or.inl (x4 _ _ _ z), x5, x6, x7, x8, x9⟩
        obtain ⟨z1, z2⟩ := x3 l xs hl hk
        have hne : l ≠ y9.2 := fun ee => by rw [ee, hT13] at z1; cases z1
        rw [up_ne hne, lb_ne hne, lb_ne hne]
        exact ⟨z1, z2⟩
      · rw [hr] at hf; cases hf

theorem px_one {G : GP} {y0 : HS} {n0 : Nat} {R e X tp ln : Nat} {bs : List Nat} {tc cq nn op dd : Nat} {rcs : Option (PS → Except Nat (Nat × PS))} {rc rc2 : Nat → Nat → (Option Nat → HS → Prop) → (Nat → Nat → HS → Prop) → HS → Nat → (Option Nat) → Prop} (hG : GK G) (hn : ∀ B post xp y, wb_X6_not G rc2 B post xp y R → rc 3 B post xp y R none) (hsub : (op = 9 ∧ rcs = none) ∨ (op < 9 ∧ ∃ r, rcs = some r ∧ RcI bs r ∧ CSp G y0 n0 R e X tp ln bs tc cq nn (op + 1) dd r (fun B post xp y => rc2 2 B post xp y R none) ∧ CSp G y0 n0 R e X tp ln bs tc cq nn (op + 1) (dd + 2) (pCondB bs r) (fun B post xp y => rc 0 B post xp y R none))) : CSp G y0 n0 R e X tp ln bs tc cq nn op (dd + 2) (pOneB bs rcs) (fun B post xp y => wb_X6_one G rc B post xp y R) := by
  intro B post xp y s D K g gA h hcn hBo hBe hp hx
  have ht := h.1.1.2.1
  have c0 := cN_mu5 ht
  have m0 := mu_le ht
  refine ⟨h.1.rdr, xl_isSign h.1.1.1 (by decide) ⟨fun h40 => ?_, fun h40 => ?_⟩⟩
  · obtain ⟨tok, cR, tk1, tk2⟩ := h.1.1.tok
    refine ⟨fun y7 u10 r8 x9 => u10 = 0 ∧ PX G y0 n0 y7 R e X tp op ln (some cq) bs s nn D K g gA ∧ Qs y y7 ∧ ((x9 = nI 0 ∧ isW s 12 = true) ∨ (∃ t, 1 ≤ t ∧ t ≤ 7 ∧ x9 = nI t ∧ isW s (wi (t + 2)) = true ∧ ∃ q, r8 = some q ∧ wdA G y7 q (t + 2)) ∨ (x9 = -1 ∧ isW s 12 = false ∧ ∀ w, 3 ≤ w → w ≤ 9 → isW s (wi w) = false)), ?_, tok, ⟨_, cR, rfl⟩, _, tk1, h.1.rdr, if pK s = 2 then 0 else 1, ?_, xp_must h.1.1 (fun hb => ?_) (fun hb => ?_) (fun hb => ?_)⟩
    · rintro y7 u10 r8 x9 ⟨rfl, P7, Q7, hz⟩
      have C7 := h.q P7 rfl
      have X7 : CExt tc y D K g gA y7 D K g gA := CExt.q Q7 h.1.2.1.1
      refine ⟨Nat.zero_le _, ?_⟩
      rcases hz with ⟨rfl, h12⟩ | ⟨t, t1, t7, rfl, hw, q, rfl, W7⟩ | ⟨rfl, h12, hno⟩
      · have e1 : pOneB bs rcs s = pNot bs rcs s := pOne_not h12
        refine ⟨fun _ => ⟨P7.rdr, B, by omega, hn B _ xp y7 (px_not (dd := dd) C7 hcn h12 ?_ (fun v hv => hBo v (e1.trans hv)) (fun f hf => hBe f (e1.trans hf)) (fun y' q v D' K' g' gA' hv C' X' hC' => hp y' q v D' K' g' gA' (e1.trans hv) C' (X7.tr X') (fun d hd => hC' d (by omega))) (fun f q y' hf hF => hx f q y' (e1.trans hf) hF))⟩, fun n => absurd rfl n⟩
        rcases hsub with z | ⟨z1, r, z2, z3, z4, -⟩
        · exact Or.inl z
        · exact Or.inr ⟨z1, r, z2, z3, z4⟩
      · have e1 := pOne_at (bs := bs) (rc := rcs) (show 3 ≤ t + 2 by omega) (show t + 2 ≤ 9 by omega) hw
        have at_ : t + 2 < 6 → wp_X6_ofCodes G B (fun r18 y17 => post r18 y17) xp y7 R (some q) := fun h6 => by
          rw [if_pos h6] at e1
          exact px_ofCodes hG ⟨by omega, h6⟩ C7 hw W7 (fun v hv => hBo v (e1.trans hv)) (fun f hf => hBe f (e1.trans hf)) (fun y' q v D' K' g' gA' hv C' X' hC' => hp y' q v D' K' g' gA' (e1.trans hv) C' (X7.tr X') (fun d _ => hC' d)) (fun f q y' hf hF => hx f q y' (e1.trans hf) hF)
        have ac : 6 ≤ t + 2 → wp_X6_compared G B (fun r18 y17 => post r18 y17) xp y7 R (some q) := fun h6 => by
          rw [if_neg (by omega)] at e1
          exact px_compared hG ⟨h6, by omega⟩ C7 hw W7 (fun v hv => hBo v (e1.trans hv)) (fun f hf => hBe f (e1.trans hf)) (fun y' q v D' K' g' gA' hv C' X' hC' => hp y' q v D' K' g' gA' (e1.trans hv) C' (X7.tr X') (fun d _ => hC' d)) (fun f q y' hf hF => hx f q y' (e1.trans hf) hF)
        have hB0 : 0 + B ≤ B := by omega
        clear e1 W7 hw
        rcases (by omega : t = 1 ∨ t = 2 ∨ t = 3 ∨ t = 4 ∨ t = 5 ∨ t = 6 ∨ t = 7) with rfl | rfl | rfl | rfl | rfl | rfl | rfl
        · exact ⟨fun e => absurd e (by decide), fun _ => ⟨fun _ => ⟨P7.rdr, B, hB0, at_ (by omega)⟩, fun n => absurd rfl n⟩⟩
        · exact ⟨fun e => absurd e (by decide), fun _ => ⟨fun e => absurd e (by decide), fun _ => ⟨fun _ => ⟨P7.rdr, B, hB0, at_ (by omega)⟩, fun n => absurd rfl n⟩⟩⟩
        · exact ⟨fun e => absurd e (by decide), fun _ => ⟨fun e => absurd e (by decide), fun _ => ⟨fun e => absurd e (by decide), fun _ => ⟨fun _ => ⟨P7.rdr, B, hB0, at_ (by omega)⟩, fun n => absurd rfl n⟩⟩⟩⟩
        · exact ⟨fun e => absurd e (by decide), fun _ => ⟨fun e => absurd e (by decide), fun _ => ⟨fun e => absurd e (by decide), fun _ => ⟨fun e => absurd e (by decide), fun _ => ⟨fun _ => ⟨P7.rdr, B, hB0, ac (by omega)⟩, fun n => absurd rfl n⟩⟩⟩⟩⟩
        · exact ⟨fun e => absurd e (by decide), fun _ => ⟨fun e => absurd e (by decide), fun _ => ⟨fun e => absurd e (by decide), fun _ => ⟨fun e => absurd e (by decide), fun _ => ⟨fun e => absurd e (by decide), fun _ => ⟨fun _ => ⟨P7.rdr, B, hB0, ac (by omega)⟩, fun n => absurd rfl n⟩⟩⟩⟩⟩⟩
        · exact ⟨fun e => absurd e (by decide), fun _ => ⟨fun e => absurd e (by decide), fun _ => ⟨fun e => absurd e (by decide), fun _ => ⟨fun e => absurd e (by decide), fun _ => ⟨fun e => absurd e (by decide), fun _ => ⟨fun e => absurd e (by decide), fun _ => ⟨fun _ => ⟨P7.rdr, B, hB0, ac (by omega)⟩, fun n => absurd rfl n⟩⟩⟩⟩⟩⟩⟩
        · exact ⟨fun e => absurd e (by decide), fun _ => ⟨fun e => absurd e (by decide), fun _ => ⟨fun e => absurd e (by decide), fun _ => ⟨fun e => absurd e (by decide), fun _ => ⟨fun e => absurd e (by decide), fun _ => ⟨fun e => absurd e (by decide), fun _ => ⟨fun e => absurd e (by decide), fun _ => ⟨fun _ => ⟨P7.rdr, B, hB0, ac (by omega)⟩, fun n => absurd rfl n⟩⟩⟩⟩⟩⟩⟩⟩
      · have eE : pOneB bs rcs s = er s 1 := pOne_er h40 h12 hno
        have hB := hBe _ eE
        refine ⟨fun e => absurd e (by decide), fun _ => ⟨fun e => absurd e (by decide), fun _ => ⟨fun e => absurd e (by decide), fun _ => ⟨fun e => absurd e (by decide), fun _ => ⟨fun e => absurd e (by decide), fun _ => ⟨fun e => absurd e (by decide), fun _ => ⟨fun e => absurd e (by decide), fun _ => ⟨fun e => absurd e (by decide), fun _ => ⟨P7.rdr, 1, by omega, xl_wrong P7.1.1 P7.1.2.2.1 P7.1.2.2.2.2 (Nat.le_refl _) (fun q9 y9 hF => ?_)⟩⟩⟩⟩⟩⟩⟩⟩⟩
        obtain ⟨w0, w1, w2, w3, w4, w5, hq9⟩ := hF.2.2.1
        exact ⟨q9, rfl, _, hq9, hx _ q9 y9 eE hF⟩
    · split
      · omega
      · next hk =>
        have eE : pOneB bs rcs s = er s 1 := pOne_er h40 (decide_eq_false (fun z => hk z.1)) (fun w _ _ => decide_eq_false (fun z => hk z.1))
        have hB := hBe _ eE
        omega
    · rw [if_neg (of_decide_eq_false hb)]; exact Nat.le_refl _
    · have hk : pK s = 2 := of_decide_eq_true hb
      obtain ⟨q, z, hh, zz, d1, d2, d3, d4, d5⟩ := h.1.1.word hk
      have et : tok = some q := by
        have := Option.some.inj (cR.symm.trans d1)
        have e2 := (ob_inj.mp this).2
        injection e2 with _ e2
        injection e2 with _ e2
        injection e2 with _ e2
        injection e2 with _ e2
        injection e2 with e2 _
        exact va_rf_inj.mp e2
      subst et
      rw [if_pos hk]
      refine ⟨_, ⟨_, cR, rfl⟩, fun a ha => (by cases ha; exact ⟨_, Or.inl d2⟩), q, rfl, ⟨_, Or.inl d2⟩, xp_hash h.1.1 hk d1 d2 d3 d4 d5 (fun y1 zz1 X1 Q1 R1 q1 b1 hz1 => ?_)⟩
      have P1 := h.1.q X1 rfl Q1
      have w1 := X1.wf
      obtain ⟨zq, gq, ez, -⟩ := id b1
      have yes : ∀ k, k < 20 → pW s = wd k → isW s k = true := fun k _ hk2 => decide_eq_true ⟨hk, hk2⟩
      have wA : ∀ w, 3 ≤ w → w ≤ 9 → pW s = wd (wi w) → wdA G y1 q w := fun w l1 l2 hw => by
        subst ez
        refine ⟨zq, ?_, by rw [← hw]; exact b1⟩
        have e1 : hsh (pW s) = whT.getD (wi w) 0 := by rw [hw]; exact hsh_wd _ (wi_lt w)
        have e2 : zz1 = 0 := by
          rcases hz1 with z1 | z1
          · exact z1
          · rw [e1] at z1; exact absurd z1 (whT_ne _ (wi_lt w))
        rw [q1, e1, e2]
      have nul : pW s ∉ wdT → isW s 12 = false ∧ ∀ w, 3 ≤ w → w ≤ 9 → isW s (wi w) = false := fun hm => ⟨decide_eq_false (fun z => hm (by rw [z.2]; exact wd_mem (by decide))), fun w _ _ => decide_eq_false (fun z => hm (by rw [z.2]; exact wd_mem (wi_lt w)))⟩
      refine ⟨fun e => ⟨⟨_, Or.inl q1⟩, xl_equals w1 hG (k := 0) (by decide) q1 b1 ⟨fun eb => ⟨rfl, P1, Q1, Or.inr (Or.inr ⟨rfl, nul (told_no (i := 0) (by decide) e (of_decide_eq_false eb))⟩)⟩, fun eb => ⟨rfl, P1, Q1, Or.inr (Or.inl ⟨4, by decide, by decide, rfl, yes 0 (by decide) (of_decide_eq_true eb), q, rfl, wA 6 (by decide) (by decide) (of_decide_eq_true eb)⟩)⟩⟩⟩, fun m0 => ?_⟩
      refine ⟨fun e => ⟨⟨_, Or.inl q1⟩, xl_equals w1 hG (k := 6) (by decide) q1 b1 ⟨fun eb => ⟨rfl, P1, Q1, Or.inr (Or.inr ⟨rfl, nul (told_no (i := 6) (by decide) e (of_decide_eq_false eb))⟩)⟩, fun eb => ⟨rfl, P1, Q1, Or.inr (Or.inl ⟨3, by decide, by decide, rfl, yes 6 (by decide) (of_decide_eq_true eb), q, rfl, wA 5 (by decide) (by decide) (of_decide_eq_true eb)⟩)⟩⟩⟩, fun m6 => ?_⟩
      refine ⟨fun e => ⟨⟨_, Or.inl q1⟩, xl_equals w1 hG (k := 8) (by decide) q1 b1 ⟨fun eb => ⟨rfl, P1, Q1, Or.inr (Or.inr ⟨rfl, nul (told_no (i := 8) (by decide) e (of_decide_eq_false eb))⟩)⟩, fun eb => ⟨rfl, P1, Q1, Or.inr (Or.inl ⟨1, by decide, by decide, rfl, yes 8 (by decide) (of_decide_eq_true eb), q, rfl, wA 3 (by decide) (by decide) (of_decide_eq_true eb)⟩)⟩⟩⟩, fun m8 => ?_⟩
      refine ⟨fun e => ⟨⟨_, Or.inl q1⟩, xl_equals w1 hG (k := 12) (by decide) q1 b1 ⟨fun eb => ⟨rfl, P1, Q1, Or.inr (Or.inr ⟨rfl, nul (told_no (i := 12) (by decide) e (of_decide_eq_false eb))⟩)⟩, fun eb => ⟨rfl, P1, Q1, Or.inl ⟨rfl, yes 12 (by decide) (of_decide_eq_true eb)⟩⟩⟩⟩, fun m12 => ?_⟩
      refine ⟨fun e => ⟨⟨_, Or.inl q1⟩, xl_equals w1 hG (k := 18) (by decide) q1 b1 ⟨fun eb => ⟨rfl, P1, Q1, Or.inr (Or.inr ⟨rfl, nul (told_no (i := 18) (by decide) e (of_decide_eq_false eb))⟩)⟩, fun eb => ⟨rfl, P1, Q1, Or.inr (Or.inl ⟨7, by decide, by decide, rfl, yes 18 (by decide) (of_decide_eq_true eb), q, rfl, wA 9 (by decide) (by decide) (of_decide_eq_true eb)⟩)⟩⟩⟩, fun m18 => ?_⟩
      refine ⟨fun e => ⟨⟨_, Or.inl q1⟩, xl_equals w1 hG (k := 5) (by decide) q1 b1 ⟨fun eb => ⟨rfl, P1, Q1, Or.inr (Or.inr ⟨rfl, nul (told_no (i := 5) (by decide) e (of_decide_eq_false eb))⟩)⟩, fun eb => ⟨rfl, P1, Q1, Or.inr (Or.inl ⟨5, by decide, by decide, rfl, yes 5 (by decide) (of_decide_eq_true eb), q, rfl, wA 7 (by decide) (by decide) (of_decide_eq_true eb)⟩)⟩⟩⟩, fun m5 => ?_⟩
      refine ⟨fun e => ⟨⟨_, Or.inl q1⟩, xl_equals w1 hG (k := 11) (by decide) q1 b1 ⟨fun eb => ⟨rfl, P1, Q1, Or.inr (Or.inr ⟨rfl, nul (told_no (i := 11) (by decide) e (of_decide_eq_false eb))⟩)⟩, fun eb => ⟨rfl, P1, Q1, Or.inr (Or.inl ⟨2, by decide, by decide, rfl, yes 11 (by decide) (of_decide_eq_true eb), q, rfl, wA 4 (by decide) (by decide) (of_decide_eq_true eb)⟩)⟩⟩⟩, fun m11 => ?_⟩
      refine ⟨fun e => ⟨⟨_, Or.inl q1⟩, xl_equals w1 hG (k := 10) (by decide) q1 b1 ⟨fun eb => ⟨rfl, P1, Q1, Or.inr (Or.inr ⟨rfl, nul (told_no (i := 10) (by decide) e (of_decide_eq_false eb))⟩)⟩, fun eb => ⟨rfl, P1, Q1, Or.inr (Or.inl ⟨6, by decide, by decide, rfl, yes 10 (by decide) (of_decide_eq_true eb), q, rfl, wA 8 (by decide) (by decide) (of_decide_eq_true eb)⟩)⟩⟩⟩, fun m10 => ?_⟩
      refine ⟨rfl, P1, Q1, Or.inr (Or.inr ⟨rfl, decide_eq_false (fun z => m12 (by rw [z.2]; exact hsh_wd 12 (by decide))), fun w l1 l2 => decide_eq_false (fun z => ?_)⟩)⟩
      have hz2 : pW s = wd (wi w) := z.2
      rcases (by omega : w = 3 ∨ w = 4 ∨ w = 5 ∨ w = 6 ∨ w = 7 ∨ w = 8 ∨ w = 9) with rfl | rfl | rfl | rfl | rfl | rfl | rfl
      · exact m8 (by rw [hz2]; exact hsh_wd 8 (by decide))
      · exact m11 (by rw [hz2]; exact hsh_wd 11 (by decide))
      · exact m6 (by rw [hz2]; exact hsh_wd 6 (by decide))
      · exact m0 (by rw [hz2]; exact hsh_wd 0 (by decide))
      · exact m5 (by rw [hz2]; exact hsh_wd 5 (by decide))
      · exact m10 (by rw [hz2]; exact hsh_wd 10 (by decide))
      · exact m18 (by rw [hz2]; exact hsh_wd 18 (by decide))
    · have hk := of_decide_eq_false hb
      have eE : pOneB bs rcs s = er s 1 := pOne_er h40 (decide_eq_false (fun z => hk z.1)) (fun w _ _ => decide_eq_false (fun z => hk z.1))
      exact fun q' y' hF => hx _ q' y' eE hF
  · have e1 : pOneB bs rcs s = pPar bs rcs s := pOne_par h40
    have hk4 : pK s = 4 := (of_decide_eq_true h40).1
    have h1 : pAt s + 1 ≤ pP s := ht.b.2.2.1 (by show pK s ≠ 0; omega)
    rcases hsub with ⟨h9, rfl⟩ | ⟨h9, r, rfl, ⟨hmu, hcg, hce⟩, -, hcond⟩
    · have eE : pOneB bs none s = er s 4 := e1
      have hB := hBe _ eE
      exact ⟨h.1.rdr, 1, by omega, px_opens h.1 (by omega) (fun _ => Nat.le_refl _) (fun z => absurd z (by omega)) (fun _ q y' hF => hx _ q y' eE hF)⟩
    · have e2 : pOneB bs (some r) s = bnd (pCondB bs r (nxt bs s)) (fun q => bnd (pMustS bs 41 q.2) (fun s => .ok (q.1, s))) := e1
      have hcm := pCondB_mu hmu
      have m1 := mu_le ht.nxt
      have hat : pAt s + 1 ≤ pAt (nxt bs s) := by
        have z1 := (nxt_b ht.b).2
        omega
      have hcn1 : 3 * cnL (nxt bs s) ≤ pAt (nxt bs s) := by
        have : cnL (nxt bs s) = cnL s := rfl
        omega
      have hb : (∃ f, pCondB bs r (nxt bs s) = .error f ∧ 5 * bs.length + 80 ≤ mu bs s + B) ∨ (∃ v, pCondB bs r (nxt bs s) = .ok v ∧ isTok bs v.2.1 ∧ mu bs (nxt bs s) + 15 ≤ mu bs v.2 ∧ ((pMustS bs 41 v.2 = .ok (nxt bs v.2) ∧ mu bs (nxt bs v.2) ≤ mu bs s + B + 6 ∧ pAt v.2 + 1 ≤ pP v.2) ∨ 5 * bs.length + 80 ≤ mu bs s + B)) := by
        cases hr : pCondB bs r (nxt bs s) with
        | error f => exact Or.inl ⟨f, rfl, hBe f (by rw [e2, hr]; rfl)⟩
        | ok v =>
          obtain ⟨t2, m2⟩ := hcm _ _ ht.nxt hr
          refine Or.inr ⟨v, rfl, t2, m2, ?_⟩
          cases hm : pMustS bs 41 v.2 with
          | error f => exact Or.inr (hBe f (by rw [e2, hr]; show bnd (pMustS bs 41 v.2) _ = _; rw [hm]; rfl))
          | ok s' =>
            obtain ⟨rfl, hs41⟩ := mS_ok hm
            refine Or.inl ⟨rfl, hBo (v.1, nxt bs v.2) (by rw [e2, hr]; show bnd (pMustS bs 41 v.2) _ = _; rw [hm]; rfl), t2.b.2.2.1 ?_⟩
            have := (of_decide_eq_true hs41).1
            show pK v.2 ≠ 0
            omega
      have p0 : cN bs (pP s) ≤ B := by
        rcases hb with ⟨f, -, z⟩ | ⟨v, -, t2, z2, ⟨-, z3, -⟩ | z3⟩
        · omega
        · have := mu_nxt t2; omega
        · omega
      refine ⟨h.1.rdr, 0, by omega, px_opens h.1 (by omega) (fun z => absurd z (by omega)) (fun _ y1 P1 Q1 => ⟨P1.rdr, cN bs (pP s), by omega, px_nxt P1 (Nat.le_refl _) (fun y4 P4 Q4 _ => ⟨P4.rdr, ?_⟩)⟩) (fun z => absurd z (by omega))⟩
      have C4 := h.q P4 rfl
      have X4 : CExt tc y D K g gA y4 D K g gA := CExt.q (Q1.tr Q4) h.1.2.1.1
      rcases hb with ⟨f, hr, hB⟩ | ⟨v, hr, t2, m2, hB⟩
      · refine ⟨B - cN bs (pP s), by omega, hcond _ _ xp y4 (nxt bs s) D K g gA C4 hcn1 (fun v hv => ?_) (fun _ _ => by omega) (fun y' q v D' K' g' gA' hv => ?_) (fun f9 q9 y9 hf hF => ?_)⟩
        · rw [hr] at hv; cases hv
        · rw [hr] at hv; cases hv
        · rw [hr] at hf; cases hf; exact hx _ q9 y9 (by rw [e2, hr]; rfl) hF
      · have m2l := mu_le t2
        have c2 := cN_mu5 t2
        refine ⟨mu bs v.2 - mu bs (nxt bs s) - 6, by rcases hB with ⟨-, z, z1⟩ | z <;> omega, hcond _ _ xp y4 (nxt bs s) D K g gA C4 hcn1 (fun v' hv => ?_) (fun f hf => ?_) (fun y9 q v' D9 K9 g9 A9 hv C9 X9 hC9 => ?_) (fun f9 q9 y9 hf hF => ?_)⟩
        · rw [hr] at hv; cases hv; omega
        · rw [hr] at hf; cases hf
        · rw [hr] at hv
          cases hv
          refine ⟨C9.1.rdr, cN bs (pP v.2) + 1, ?_, px_sign C9.1 (by decide) (Nat.le_refl _) (fun y12 hm P12 Q12 => px_close P12 (fun y16 P16 Q16 => ?_)) (fun f q9 y9 hf hF => hx _ q9 y9 (by rw [e2, hr]; show bnd (pMustS bs 41 v.2) _ = _; rw [hf]; rfl) hF)⟩
          · have c2l : cN bs (pP v.2) ≤ 4 := by
              unfold cN
              split
              · omega
              · split <;> omega
            rcases hB with ⟨-, z, z1⟩ | z <;> omega
          · have X16 : CExt tc y9 D9 K9 g9 A9 y16 D9 K9 g9 A9 := CExt.q (Q12.tr Q16) C9.1.2.1.1
            exact hp y16 q (v.1, nxt bs v.2) D9 K9 g9 A9 (by rw [e2, hr]; show bnd (pMustS bs 41 v.2) _ = _; rw [hm]; rfl) (C9.q P16 rfl) ((X4.tr X9).tr X16) hC9
        · rw [hr] at hf; cases hf
theorem px_condR {G : GP} {y0 : HS} {n0 : Nat} {R e X tp ln : Nat} {bs : List Nat} {tc cq nn op dd k : Nat} {p : PS → Except Nat (Nat × PS)} (hG : GK G) (hp : RcI bs p) (h1 : CSp G y0 n0 R e X tp ln bs tc cq nn op dd p (fun B post xp y => wp_c4 G k 2 B post xp y R none)) : CSp G y0 n0 R e X tp ln bs tc cq nn op (dd + 2) (pCondB bs p) (fun B post xp y => wp_c4 G (k + 3) 0 B post xp y R none) := by
  have hA : CSp G y0 n0 R e X tp ln bs tc cq nn op (dd + 1) (pJoin bs (wi 1) 1 p) (fun B post xp y => wb_X6_joined G (wp_c4 G k) B post xp y R (some (gK G (wi 1)))) := px_join (w := 1) (by decide) hG (fun B post xp y s D K g gA a b c d e f => ⟨fun _ => h1 B post xp y s D K g gA a b c d e f, fun z => absurd z (by decide)⟩) hp.1 hp.2.1 hp.2.2
  have hO : CSp G y0 n0 R e X tp ln bs tc cq nn op (dd + 1 + 1) (pJoin bs (wi 0) 0 (pJoin bs (wi 1) 1 p)) (fun B post xp y => wb_X6_joined G (wp_c4 G (k + 1)) B post xp y R (some (gK G (wi 0)))) := px_join (w := 0) (by decide) hG (fun B post xp y s D K g gA a b c d e f => ⟨fun z => absurd z (by decide), fun _ => hA B post xp y s D K g gA a b c d e f⟩) (pJoin_mu hp.1 (by decide)) (pJoin_pg hp.2.1 (by decide)) (pJoin_ce hp.2.2)
  intro B post xp y s D K g gA h hcn hBo hBe hp' hx
  show wb_X6_cond G (wp_c4 G (k + 2)) B post xp y R
  exact ⟨h.1.rdr, B, by omega, hO B _ xp y s D K g gA h hcn hBo hBe hp' hx⟩
theorem RcO (bs : List Nat) (d : Nat) : RcI bs (pO bs d) := ⟨pO_mu d, pO_pg d, pO_ce d⟩
/-- conditions, by the levels left -/
theorem px_O {G : GP} {y0 : HS} {n0 : Nat} {R e X tp ln : Nat} {bs : List Nat} {tc cq nn : Nat} (hG : GK G) : ∀ (d : Nat), d ≤ 9 → ∀ m, 4 * d + 2 ≤ m → CSp G y0 n0 R e X tp ln bs tc cq nn (9 - d) (2 * d + 2) (pO bs d) (fun B post xp y => wp_c4 G m 2 B post xp y R none) := by
  intro d
  induction d with
  | zero =>
    intro _ m hm
    obtain ⟨k, rfl⟩ : ∃ k, m = k + 2 := ⟨m - 2, by omega⟩
    exact px_one (rcs := none) (rc := wp_c4 G (k + 1)) (rc2 := wp_c4 G k) (dd := 0) hG (fun B post xp y hh => hh) (Or.inl ⟨rfl, rfl⟩)
  | succ d ih =>
    intro hd m hm
    obtain ⟨k, rfl⟩ : ∃ k, m = k + 6 := ⟨m - 6, by omega⟩
    have e1 : 9 - (d + 1) + 1 = 9 - d := by omega
    refine px_one (rcs := some (pO bs d)) (rc := wp_c4 G (k + 5)) (rc2 := wp_c4 G (k + 4)) (dd := 2 * d + 2) hG (fun B post xp y hh => hh) (Or.inr ⟨by omega, pO bs d, rfl, RcO bs d, ?_, ?_⟩)
    · rw [e1]; exact ih (by omega) (k + 4) (by omega)
    · rw [e1]; exact px_condR (k := k + 2) hG (RcO bs d) (ih (by omega) (k + 2) (by omega))
theorem px_cond {G : GP} {y0 : HS} {n0 : Nat} {R e X tp ln : Nat} {bs : List Nat} {tc cq nn d : Nat} (hG : GK G) (hd : d ≤ 9) : CSp G y0 n0 R e X tp ln bs tc cq nn (9 - d) 40 (pCondB bs (pO bs d)) (fun B post xp y => wp_c4 G d_c4 0 B post xp y R none) := by
  have h1 := px_condR (k := 38) (e := e) (tc := tc) (cq := cq) (nn := nn) (R := R) (X := X) (tp := tp) (ln := ln) (y0 := y0) (n0 := n0) hG (RcO bs d) (px_O hG d hd 38 (by omega))
  intro B post xp y s D K g gA a b c d2 hp f
  exact h1 B post xp y s D K g gA a b c d2 (fun y' q v D' K' g' gA' z1 z2 z3 z4 => hp y' q v D' K' g' gA' z1 z2 z3 (fun dd hdd => z4 dd (by omega))) f
