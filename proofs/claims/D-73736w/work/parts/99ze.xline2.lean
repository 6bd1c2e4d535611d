/-! The component's reader: lines -/
set_option maxRecDepth 100000
theorem pKind_mu {bs : List Nat} {s q : PS} (ht : isTok bs s.1) (h : pKind bs s = .ok q) : isTok bs q.1 ∧ mu bs s ≤ mu bs q := by
  have c0 := mu_nxt ht
  have c1 := mu_nxt ht.nxt
  unfold pKind at h
  split at h
  · unfold pChapter at h
    split at h
    · cases h
    · split at h
      · cases h
      · split at h
        · cases h
        · obtain ⟨u, u1, u2⟩ := bnd_ok h
          obtain ⟨z1, z2, -⟩ := pSpans_mu _ _ _ _ ht.nxt.nxt (by decide) u1
          cases u2
          exact ⟨z1, by show mu bs s ≤ mu bs u.2; omega⟩
  · split at h
    · unfold pRank at h
      split at h
      · cases h
      · obtain ⟨r, h1, h2⟩ := bnd_ok h
        obtain ⟨v, h3, h4⟩ := bnd_ok h2
        obtain ⟨z1, z2, -⟩ := pSpan_mu ht.nxt h1
        obtain ⟨z3, z4, -⟩ := pNum_mu z1 h3
        cases h4
        exact ⟨z3, by show mu bs s ≤ mu bs v.2; omega⟩
    · split at h
      · unfold pPartner at h
        split at h
        · cases h
        · obtain ⟨r, h1, h2⟩ := bnd_ok h
          obtain ⟨v, h3, h4⟩ := bnd_ok h2
          obtain ⟨z1, z2, -⟩ := pSpan_mu ht.nxt h1
          obtain ⟨z3, z4, -⟩ := pNum_mu z1 h3
          have z5 := mu_nxt z3
          have h4' : (if isW v.2 2 = true then bnd (pSpans bs 4 [] (nxt bs v.2)) (fun u => .ok (sEd u.2 (uPt (pE u.2) (ePt (pE u.2) ++ [(r.1, v.1, u.1)])))) else .ok (sEd v.2 (uPt (pE v.2) (ePt (pE v.2) ++ [(r.1, v.1, [])])))) = Except.ok q := h4
          split at h4'
          · obtain ⟨u, u1, u2⟩ := bnd_ok h4'
            obtain ⟨z6, z7, -⟩ := pSpans_mu _ _ _ _ z3.nxt (by decide) u1
            cases u2
            exact ⟨z6, by show mu bs s ≤ mu bs u.2; omega⟩
          · cases h4'
            exact ⟨z3, by show mu bs s ≤ mu bs v.2; omega⟩
      · split at h
        · obtain ⟨hn, c, r, hc, h0, hr, rfl⟩ := pTree_ok h
          obtain ⟨z1, z2⟩ := (RnN bs _ 9).1 _ _ (show isTok bs (((nxt bs (nxt bs s)).1, pE s, []) : PS).1 from ht.nxt.nxt) hr
          have e1 : mu bs (((nxt bs (nxt bs s)).1, pE s, []) : PS) = mu bs (nxt bs (nxt bs s)) := mu_eq rfl
          exact ⟨z1, by show mu bs s ≤ mu bs r.2; omega⟩
        · cases h
theorem px_line {G : GP} {y0 : HS} {n0 : Nat} {R e X tp ln B : Nat} {bs : List Nat} {y : HS} {s : PS} {D : LM} {K : Nat → Nat} {g : EG} {gA : Nat → List Cn} {post : HS → Prop} {xp : Nat → Nat → HS → Prop} (hG : GK G) (h9b : bs.length ≤ 900) (h : LXs G y0 n0 R e X tp ln bs y s D K g gA) (hk0 : pK s ≠ 0) (hBo : ∀ q, pLine bs s = .ok q → mu bs q ≤ mu bs s + B) (hBe : ∀ f, pLine bs s = .error f → 5 * bs.length + 100 ≤ mu bs s + B)
    (hp : ∀ y' q D' K' g' gA', pLine bs s = .ok q → LXs G y0 n0 R e X tp ln bs y' q D' K' g' gA' → post y') (hx : ∀ f q y', pLine bs s = .error f → XF G R ln f n0 y0 6 q y' → xp 6 q y') : wp_X6_line G B post xp y R := by
  obtain ⟨⟨op, ch, P⟩, hR⟩ := id h
  have ht := P.1.2.1
  have m0 := mu_le ht
  obtain ⟨tok, cR, tk1, tk2⟩ := P.1.tok
  have eL : pLine bs s = bnd (pKind bs s) (fun q => pMustS bs 59 q) := rfl
  have q4 : ∀ p, cN bs p ≤ 4 := fun p => by
    unfold cN
    split
    · omega
    · split <;> omega
  have budK : ∀ q, pKind bs s = .ok q → (mu bs q + cN bs (pP q) + 1 ≤ mu bs s + B ∨ 5 * bs.length + 100 ≤ mu bs s + B) ∧ isTok bs q.1 ∧ mu bs s ≤ mu bs q := by
    intro q hq
    obtain ⟨z1, z2⟩ := pKind_mu ht hq
    refine ⟨?_, z1, z2⟩
    cases hm : pMustS bs 59 q with
    | error f => exact Or.inr (hBe f (by rw [eL, hq]; exact hm))
    | ok v =>
      obtain ⟨rfl, hs⟩ := mS_ok hm
      have hB := hBo _ (by rw [eL, hq]; exact hm)
      have c1 := cN_mu5 z1
      have hk : pK q = 4 := (of_decide_eq_true hs).1
      have h1 : pAt q + 1 ≤ pP q := z1.b.2.2.1 (by show pK q ≠ 0; omega)
      exact Or.inl (by omega)
  have budE : ∀ f, pKind bs s = .error f → 5 * bs.length + 100 ≤ mu bs s + B := fun f hf => hBe f (by rw [eL, hf]; rfl)
  refine ⟨fun y3 u5 x4 => u5 = 0 ∧ LXs G y0 n0 R e X tp ln bs y3 s D K g gA ∧ ((x4 = nI 0 ∧ isW s 3 = true) ∨ (x4 = nI 1 ∧ isW s 15 = true) ∨ (x4 = nI 2 ∧ isW s 14 = true) ∨ (x4 = nI 3 ∧ isW s 19 = true) ∨ (x4 = -1 ∧ pKind bs s = .error (8 * pAt s + 1))), ?_, tok, ⟨_, cR, rfl⟩, _, tk1, P.rdr, if pK s = 2 then 0 else 1, ?_, xp_must P.1 (fun hb => ?_) (fun hb => ?_) (fun hb => ?_)⟩
  · rintro y3 u5 x4 ⟨rfl, L3, hz⟩
    obtain ⟨⟨op3, ch3, P3⟩, li, hcn, he, hA0, hA1, hcov, hXn⟩ := id L3
    obtain ⟨ct, li1, li2, -⟩ := id li
    refine ⟨Nat.zero_le _, fun y8 u9 => ∃ q D' K' g' gA', pKind bs s = .ok q ∧ LXs G y0 n0 R e X tp ln bs y8 q D' K' g' gA' ∧ u9 + mu bs s ≤ mu bs q, ?_, ?_⟩
    · rintro y8 u9 ⟨q, D', K', g', gA', hq, L8, hu⟩
      obtain ⟨b1, t1, m1⟩ := budK q hq
      have mq := mu_le t1
      have q4q := q4 (pP q)
      obtain ⟨⟨op8, ch8, P8⟩, li8, hcn8, he8, hA08, hA18, hcov8, hXn8⟩ := L8
      refine ⟨by rcases b1 with z | z <;> omega, P8.rdr, cN bs (pP q) + 1, by rcases b1 with z | z <;> omega, px_sign P8 (by decide) (Nat.le_refl _) (fun y10 hm P10 Q10 => ?_) (fun f q9 y9 hf hF => hx _ q9 y9 (by rw [eL, hq]; exact hf) hF)⟩
      refine hp y10 (nxt bs q) D' K' g' gA' (by rw [eL, hq]; exact hm) ⟨⟨op8, ch8, P10⟩, li8, ?_, he8, hA08, hA18, hcov8, hXn8⟩
      have z1 := (nxt_b t1.b).2
      have z2 : pAt q ≤ pP q := t1.b.1
      show 3 * cnL q ≤ pAt (nxt bs q)
      omega
    · -- one kind of line
      have go : ∀ (wp : Nat → (HS → Prop) → Prop), (∀ k post', (∀ q, pKind bs s = .ok q → mu bs q ≤ mu bs s + k) → (∀ f, pKind bs s = .error f → 5 * bs.length + 100 ≤ mu bs s + k) → (∀ y' q D' K' g' gA', pKind bs s = .ok q → LXs G y0 n0 R e X tp ln bs y' q D' K' g' gA' → post' y') → wp k post') → ∃ k, 0 + k ≤ B ∧ wp k (fun y14 => ∃ q D' K' g' gA', pKind bs s = .ok q ∧ LXs G y0 n0 R e X tp ln bs y14 q D' K' g' gA' ∧ (0 + k) + mu bs s ≤ mu bs q) := by
        intro wp hwp
        cases hq : pKind bs s with
        | error f =>
          have hB := budE f hq
          refine ⟨B, by omega, hwp _ _ (fun q hq' => ?_) (fun _ _ => hB) (fun y' q D' K' g' gA' hq' => ?_)⟩
          · rw [hq] at hq'; cases hq'
          · rw [hq] at hq'; cases hq'
        | ok q =>
          obtain ⟨b1, t1, m1⟩ := budK q hq
          have mq := mu_le t1
          refine ⟨mu bs q - mu bs s, by rcases b1 with z | z <;> omega, hwp _ _ (fun q' hq' => ?_) (fun f hf => ?_) (fun y' q' D' K' g' gA' hq' L' => ⟨q', D', K', g', gA', by rw [← hq]; exact hq', L', ?_⟩)⟩
          · rw [hq] at hq'; cases hq'; omega
          · rw [hq] at hf; cases hf
          · rw [hq] at hq'; cases hq'; omega
      rcases hz with ⟨rfl, hw⟩ | ⟨rfl, hw⟩ | ⟨rfl, hw⟩ | ⟨rfl, hw⟩ | ⟨rfl, eE⟩
      · have eK : pKind bs s = pChapter bs s := by unfold pKind; rw [if_pos hw]
        obtain ⟨k, hk, hgo⟩ := go (fun k post' => wp_X6_chapter G k post' xp y3 R) (fun k post' b1 b2 hp' => px_chapter hG P3 hw (fun n x hx' => (li2 n x hx').1) (fun q hq => b1 q (eK.trans hq)) (fun f hf => by have := b2 f (eK.trans hf); omega) (fun y' q D' K' g' hq P' z1 z2 z3 z4 z5 => hp' y' q D' K' g' _ (eK.trans hq) (by
          obtain ⟨c, e1, e2⟩ := pChapter_E ht hq
          refine L3.up h9b ht.b hk0 (eK.trans hq) P' (by rw [e1]; rfl) (by rw [e1]; rfl) (fun k c' hc' => ?_) z1 z2 z4 z5
          rw [e1] at hc'
          have hc2 : (eCh (pE s) ++ [c])[k]? = some c' := hc'
          rcases Nat.lt_or_ge k (eCh (pE s)).length with w | w
          · rw [List.getElem?_append_left w] at hc2
            exact Or.inl ⟨hc2, if_neg (by omega)⟩
          · have hkl : k = (eCh (pE s)).length := by
              have := (List.getElem?_eq_some_iff.mp hc2).1
              rw [List.length_append, List.length_singleton] at this
              omega
            subst hkl
            rw [List.getElem?_append_right (Nat.le_refl _), Nat.sub_self] at hc2
            cases hc2
            exact Or.inr ⟨e2, if_pos rfl⟩)) (fun f q y' hf hF => hx _ q y' (by rw [eL, eK, hf]; rfl) hF))
        exact ⟨fun _ => ⟨P3.rdr, k, hk, hgo⟩, fun n => absurd rfl n⟩
      · have eK : pKind bs s = pRank bs s := by unfold pKind; rw [if_neg (nz (isW_ne hw (by decide))), if_pos hw]
        obtain ⟨k, hk, hgo⟩ := go (fun k post' => wp_X6_rank G k post' xp y3 R) (fun k post' b1 b2 hp' => px_rank hG P3 hw (fun q hq => b1 q (eK.trans hq)) (fun f hf => by have := b2 f (eK.trans hf); omega) (fun y' q D' hq P' => hp' y' q D' K g gA (eK.trans hq) (by
          obtain ⟨l, e1⟩ := pRank_E hq
          exact L3.up h9b ht.b hk0 (eK.trans hq) P' (by rw [e1]; rfl) (by rw [e1]; rfl) (fun k c' hc' => Or.inl ⟨by rw [e1] at hc'; exact hc', rfl⟩) rfl rfl rfl (fun c hc => Or.inl hc))) (fun f q y' hf hF => hx _ q y' (by rw [eL, eK, hf]; rfl) hF))
        exact ⟨fun e => absurd e (by decide), fun _ => ⟨fun _ => ⟨P3.rdr, k, hk, hgo⟩, fun n => absurd rfl n⟩⟩
      · have eK : pKind bs s = pPartner bs s := by unfold pKind; rw [if_neg (nz (isW_ne hw (by decide))), if_neg (nz (isW_ne hw (by decide))), if_pos hw]
        obtain ⟨k, hk, hgo⟩ := go (fun k post' => wp_X6_partner G k post' xp y3 R) (fun k post' b1 b2 hp' => px_partner hG P3 hw (fun q hq => b1 q (eK.trans hq)) (fun f hf => by have := b2 f (eK.trans hf); omega) (fun y' q D' K' hq P' => hp' y' q D' K' g gA (eK.trans hq) (by
          obtain ⟨l, e1⟩ := pPartner_E ht hq
          exact L3.up h9b ht.b hk0 (eK.trans hq) P' (by rw [e1]; rfl) (by rw [e1]; rfl) (fun k c' hc' => Or.inl ⟨by rw [e1] at hc'; exact hc', rfl⟩) rfl rfl rfl (fun c hc => Or.inl hc))) (fun f q y' hf hF => hx _ q y' (by rw [eL, eK, hf]; rfl) hF))
        exact ⟨fun e => absurd e (by decide), fun _ => ⟨fun e => absurd e (by decide), fun _ => ⟨fun _ => ⟨P3.rdr, k, hk, hgo⟩, fun n => absurd rfl n⟩⟩⟩
      · have eK : pKind bs s = pTree bs s := by unfold pKind; rw [if_neg (nz (isW_ne hw (by decide))), if_neg (nz (isW_ne hw (by decide))), if_neg (nz (isW_ne hw (by decide))), if_pos hw]
        obtain ⟨k, hk, hgo⟩ := go (fun k post' => wp_X6_tree G k post' xp y3 R) (fun k post' b1 b2 hp' => px_tree hG h9b L3 hw (fun q hq => b1 q (eK.trans hq)) (fun f hf => by have := b2 f (eK.trans hf); omega) (fun y' q D' K' g' gA' hq L' => hp' y' q D' K' g' gA' (eK.trans hq) L') (fun f q y' hf hF => hx _ q y' (by rw [eL, eK, hf]; rfl) hF))
        exact ⟨fun e => absurd e (by decide), fun _ => ⟨fun e => absurd e (by decide), fun _ => ⟨fun e => absurd e (by decide), fun _ => ⟨fun _ => ⟨P3.rdr, k, hk, hgo⟩, fun n => absurd rfl n⟩⟩⟩⟩
      · have hB := budE _ eE
        refine ⟨fun e => absurd e (by decide), fun _ => ⟨fun e => absurd e (by decide), fun _ => ⟨fun e => absurd e (by decide), fun _ => ⟨fun e => absurd e (by decide), fun _ => ⟨P3.rdr, 1, by omega, xl_wrong P3.1.1 P3.1.2.2.1 P3.1.2.2.2.2 (Nat.le_refl _) (fun q9 y9 hF => ?_)⟩⟩⟩⟩⟩
        obtain ⟨w0, w1, w2, w3, w4, w5, hq9⟩ := hF.2.2.1
        exact ⟨q9, rfl, _, hq9, hx _ q9 y9 (by rw [eL, eE]; rfl) hF⟩
  · split
    · omega
    · next hk =>
      have eE : pKind bs s = er s 1 := by
        unfold pKind
        rw [if_neg (fun z => hk (of_decide_eq_true z).1), if_neg (fun z => hk (of_decide_eq_true z).1), if_neg (fun z => hk (of_decide_eq_true z).1), if_neg (fun z => hk (of_decide_eq_true z).1)]
      have := budE _ eE
      omega
  · rw [if_neg (of_decide_eq_false hb)]; exact Nat.le_refl _
  · have hk : pK s = 2 := of_decide_eq_true hb
    obtain ⟨q, z, hh, zz, d1, d2, d3, d4, d5⟩ := P.1.word hk
    have et : tok = some q := by
      have := Option.some.inj (cR.symm.trans d1)
      have e2 := (ob_inj.mp this).2
      injection e2 with _ e2
      injection e2 with _ e2
      injection e2 with _ e2
      injection e2 with _ e2
      injection e2 with e2 _
      exact va_rf_inj.mp e2
    subst et
    rw [if_pos hk]
    refine ⟨_, ⟨_, cR, rfl⟩, fun a ha => (by cases ha; exact ⟨_, Or.inl d2⟩), q, rfl, ⟨_, Or.inl d2⟩, xp_hash P.1 hk d1 d2 d3 d4 d5 (fun y1 zz1 X1 Q1 R1 q1 b1 hz1 => ?_)⟩
    have P1 := P.q X1 rfl Q1
    have w1 := X1.wf
    have L1 : LXs G y0 n0 R e X tp ln bs y1 s D K g gA := ⟨⟨op, ch, P1⟩, hR⟩
    have yes : ∀ k, pW s = wd k → isW s k = true := fun k hk2 => decide_eq_true ⟨hk, hk2⟩
    have nul : (∀ k, (k = 3 ∨ k = 15 ∨ k = 14 ∨ k = 19) → ¬ pW s = wd k) → pKind bs s = .error (8 * pAt s + 1) := fun hm => by
      unfold pKind
      rw [if_neg (fun z => hm 3 (by decide) (of_decide_eq_true z).2), if_neg (fun z => hm 15 (by decide) (of_decide_eq_true z).2), if_neg (fun z => hm 14 (by decide) (of_decide_eq_true z).2), if_neg (fun z => hm 19 (by decide) (of_decide_eq_true z).2)]
      rfl
    have nut : pW s ∉ wdT → ∀ k, (k = 3 ∨ k = 15 ∨ k = 14 ∨ k = 19) → ¬ pW s = wd k := fun hm k hk3 z => hm (by rw [z]; exact wd_mem (by omega))
    refine ⟨fun e => ⟨⟨_, Or.inl q1⟩, xl_equals w1 hG (k := 14) (by decide) q1 b1 ⟨fun eb => ⟨rfl, L1, Or.inr (Or.inr (Or.inr (Or.inr ⟨rfl, nul (nut (told_no (i := 14) (by decide) e (of_decide_eq_false eb)))⟩)))⟩, fun eb => ⟨rfl, L1, Or.inr (Or.inr (Or.inl ⟨rfl, yes 14 (of_decide_eq_true eb)⟩))⟩⟩⟩, fun m14 => ?_⟩
    refine ⟨fun e => ⟨⟨_, Or.inl q1⟩, xl_equals w1 hG (k := 15) (by decide) q1 b1 ⟨fun eb => ⟨rfl, L1, Or.inr (Or.inr (Or.inr (Or.inr ⟨rfl, nul (nut (told_no (i := 15) (by decide) e (of_decide_eq_false eb)))⟩)))⟩, fun eb => ⟨rfl, L1, Or.inr (Or.inl ⟨rfl, yes 15 (of_decide_eq_true eb)⟩)⟩⟩⟩, fun m15 => ?_⟩
    refine ⟨fun e => ⟨⟨_, Or.inl q1⟩, xl_equals w1 hG (k := 19) (by decide) q1 b1 ⟨fun eb => ⟨rfl, L1, Or.inr (Or.inr (Or.inr (Or.inr ⟨rfl, nul (nut (told_no (i := 19) (by decide) e (of_decide_eq_false eb)))⟩)))⟩, fun eb => ⟨rfl, L1, Or.inr (Or.inr (Or.inr (Or.inl ⟨rfl, yes 19 (of_decide_eq_true eb)⟩)))⟩⟩⟩, fun m19 => ?_⟩
    refine ⟨fun e => ⟨⟨_, Or.inl q1⟩, xl_equals w1 hG (k := 3) (by decide) q1 b1 ⟨fun eb => ⟨rfl, L1, Or.inr (Or.inr (Or.inr (Or.inr ⟨rfl, nul (nut (told_no (i := 3) (by decide) e (of_decide_eq_false eb)))⟩)))⟩, fun eb => ⟨rfl, L1, Or.inl ⟨rfl, yes 3 (of_decide_eq_true eb)⟩⟩⟩⟩, fun m3 => ?_⟩
    refine ⟨rfl, L1, Or.inr (Or.inr (Or.inr (Or.inr ⟨rfl, nul (fun k hk3 z => ?_)⟩)))⟩
    rcases hk3 with rfl | rfl | rfl | rfl
    · exact m3 (by rw [z]; exact hsh_wd 3 (by decide))
    · exact m15 (by rw [z]; exact hsh_wd 15 (by decide))
    · exact m14 (by rw [z]; exact hsh_wd 14 (by decide))
    · exact m19 (by rw [z]; exact hsh_wd 19 (by decide))
  · have hk := of_decide_eq_false hb
    have eE : pKind bs s = er s 1 := by
      unfold pKind
      rw [if_neg (fun z => hk (of_decide_eq_true z).1), if_neg (fun z => hk (of_decide_eq_true z).1), if_neg (fun z => hk (of_decide_eq_true z).1), if_neg (fun z => hk (of_decide_eq_true z).1)]
    exact fun q' y' hF => hx _ q' y' (by rw [eL, eE]; rfl) hF
