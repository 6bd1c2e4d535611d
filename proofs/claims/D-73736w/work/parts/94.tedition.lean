/-! The model's edition() -/
set_option maxRecDepth 100000
theorem PF.rf (c : Nat) (σ : TS) : PF c σ σ := ⟨fun _ _ => rfl, fun _ _ _ => rfl, fun _ _ _ _ => rfl⟩
theorem pLine_ok {bs : List Nat} {s q : PS} (h : bnd (pKind bs s) pEnds = .ok q) : pLine bs s = .ok (nxt bs q) ∧ pKind bs s = .ok q ∧ isS q 59 = true := by
  obtain ⟨v, h1, h2⟩ := bnd_ok h
  unfold pEnds at h2
  split at h2
  · next hS =>
    cases h2
    unfold pLine
    rw [h1]
    exact ⟨if_pos hS, rfl, hS⟩
  · cases h2
theorem pLine_er {bs : List Nat} {s : PS} {f : Nat} (h : bnd (pKind bs s) pEnds = .error f) : pLine bs s = .error f := by
  unfold pLine
  rcases bnd_er h with h1 | ⟨v, h1, h2⟩
  · rw [h1]; rfl
  · rw [h1]
    unfold pEnds at h2
    show pMustS bs 59 v = _
    unfold pMustS
    split at h2
    · cases h2
    · next hS => rw [if_neg hS]; exact h2
theorem pLines_step (bs : List Nat) (f n : Nat) (s : PS) : pLines bs (f + 1) n s = if pK s = 0 then (n, .ok s) else match pLine bs s with
    | .error e => (n, .error e)
    | .ok q => pLines bs f (n + 1) q := rfl
theorem RepT0 {σ : TS} {c : Nat} (hc : c < 3) (h : ∀ i, i < 7 → sf σ 3 (7 * c + i) = 0) : RepT σ c E0 := ⟨hc, ⟨h 0 (by omega), Nat.zero_le _, fun k hk => (by cases hk)⟩, ⟨h 1 (by omega), Nat.zero_le _, fun k hk => (by cases hk)⟩, ⟨h 2 (by omega), Nat.zero_le _, fun k hk => (by cases hk)⟩, ⟨h 3 (by omega), Nat.zero_le _, fun k hk => (by cases hk)⟩, ⟨h 4 (by omega), Nat.zero_le _, fun k hk => (by cases hk)⟩, ⟨h 5 (by omega), Nat.zero_le _, fun k hk => (by cases hk)⟩⟩
/-- one line -/
theorem tl_line {c : Nat} {σ0 : TS} {bs : List Nat} {σ : TS} {s : PS} {J : TS → Prop} (h : TPk c σ0 bs σ s) (hb : 3 * cnL s ≤ pAt s) (hp : ∀ σ', OT c σ0 bs σ' (bnd (pKind bs s) pEnds) → J σ') : wp_isWord (fun b64 z63 => (b64 = false → wp_isWord (fun b67 z66 => (b67 = false → wp_isWord (fun b70 z69 => (b70 = false → wp_isWord (fun b73 z72 => (b73 = false → wp_wrong (fun z75 => J z75 ) z72 (nI 1)) ∧ (b73 = true → wp_treeLine (fun z76 => J z76 ) z72)) z69 19) ∧ (b70 = true → wp_partnerLine (fun z77 => J z77 ) z69)) z66 14) ∧ (b67 = true → wp_rankLine (fun z78 => J z78 ) z66)) z63 15) ∧ (b64 = true → wp_chapterLine (fun z79 => J z79 ) z63)) σ 3 := by
  have L := h.2.1
  have bf : ∀ {b : Bool}, b = false → ¬ b = true := fun hb => by rw [hb]; decide
  unfold pKind at hp
  refine tn_isWord L (by omega) ⟨fun k3 => ?_, fun k3 => ?_⟩
  · rw [if_neg (bf k3)] at hp
    refine tn_isWord L (by omega) ⟨fun k15 => ?_, fun k15 => ?_⟩
    · rw [if_neg (bf k15)] at hp
      refine tn_isWord L (by omega) ⟨fun k14 => ?_, fun k14 => ?_⟩
      · rw [if_neg (bf k14)] at hp
        refine tn_isWord L (by omega) ⟨fun k19 => ?_, fun k19 => ?_⟩
        · rw [if_neg (bf k19)] at hp
          refine tn_wrong (α := PS) L (by omega) (fun z f n g e => hp z ?_)
          rw [e]
          exact ⟨h.1.nf n, g⟩
        · rw [if_pos k19] at hp
          exact tl_tree h hb (fun z o => hp z o)
      · rw [if_pos k14] at hp
        exact tl_partner h (fun z o => hp z o)
    · rw [if_pos k15] at hp
      exact tl_rank h (fun z o => hp z o)
  · rw [if_pos k3] at hp
    exact tl_chapter h (fun z o => hp z o)
theorem tn_chapters {σ : TS} {c n : Nat} {E : Ed} {post : Int32 → TS → Prop} (hR : RepT σ c E) (h31 : sx σ 31 = nI c) (hn : (eCh E).length = n) (hp : post (nI n) σ) : wp_chapters post σ (sx σ 31) := by
  subst hn
  unfold wp_chapters
  have hc := hR.1
  rw [h31, nI_mul, nI_clamp (by omega), hR.2.1.1]
  exact ⟨vp_inN (by omega) (by omega), hp⟩
/-- the text read whole: from the first token on -/
theorem tl_whole {c : Nat} {σ0 : TS} {bs : List Nat} {σ : TS} {post : Int32 → TS → Prop} (h : TPk c σ0 bs σ (lex bs 0, E0, []))
    (h1 : ∀ z n E, pWhole bs = (n, .ok E) → PF c σ0 z → RepT z c E → sx z 31 = nI c → ∀ x39, x39 = sx z 29 → ∀ z40, z40 = ux z 29 (sx z 31) → ∀ z41, z41 = ux z40 31 x39 → wp_laysLeaves (fun z42 => post (nI n) z42) z41)
    (h2 : ∀ z n f, pWhole bs = (n, .error f) → PF c σ0 z → FL z f → ∀ z43, z43 = ux z 33 (nI n) → post (((-2)) - (nI f)) z43) :
    ∃ I17 : Nat → TS → Int32 → Prop, (∃ n23, I17 n23 σ (nI 0)) ∧ ∀ (n18 : Nat) (z19 : TS) (x22 : Int32), I17 n18 z19 x22 → ∃ J24 : TS → Int32 → Prop, (∀ (z26 : TS) (x27 : Int32), J24 z26 x27 → ∃ I28 : Nat → TS → Int32 → Prop, (∃ n34, I28 n34 z26 (nI 0)) ∧ ∀ (n29 : Nat) (z30 : TS) (x33 : Int32), I28 n29 z30 x33 → ∃ J35 : TS → Prop, (∀ (z37 : TS), J35 z37  → ((sx z37 48) ≤ 0 → ∀ x39, x39 = sx z37 29 → ∀ z40, z40 = ux z37 29 (sx z37 31) → ∀ z41, z41 = ux z40 31 x39 → wp_laysLeaves (fun z42 => post x27 z42) z41) ∧ (¬ (sx z37 48) ≤ 0 → ∀ z43, z43 = ux z37 33 x27 → post (((-2)) - (sx z43 48)) z43)) ∧ (wp_chapters (fun r45 z44 => (r45 ≤ x33 → J35 z44 ) ∧ (¬ r45 ≤ x33 → (¬ (sx z44 48) = 0 → J35 z44 ) ∧ ((sx z44 48) = 0 → vp_in (((nI 6) * (sx z44 31)) + x33) 18 ∧ (0 ≤ (sf z44 8 (((nI 6) * (sx z44 31)) + x33).toNatClampNeg) → ∃ n49, n49 < n29 ∧ I28 n49 z44 (x33 + nI 1)) ∧ (¬ 0 ≤ (sf z44 8 (((nI 6) * (sx z44 31)) + x33).toNatClampNeg) → wp_wrong (fun z50 => ∃ n51, n51 < n29 ∧ I28 n51 z50 (x33 + nI 1)) z44 (nI 5))))) z30 (sx z30 31))) ∧ ((¬ (sx z19 48) = 0 → J24 z19 x22) ∧ ((sx z19 48) = 0 → ((sx z19 45) = 0 → J24 z19 x22) ∧ (¬ (sx z19 45) = 0 → ∃ J57 : TS → Prop, (∀ (z59 : TS), J57 z59  → ((sx z59 48) ≤ 0 → wp_next (fun z61 => ∃ n62, n62 < n18 ∧ I17 n62 z61 (x22 + nI 1)) z59) ∧ (¬ (sx z59 48) ≤ 0 → J24 z59 x22)) ∧ (wp_isWord (fun b64 z63 => (b64 = false → wp_isWord (fun b67 z66 => (b67 = false → wp_isWord (fun b70 z69 => (b70 = false → wp_isWord (fun b73 z72 => (b73 = false → wp_wrong (fun z75 => J57 z75 ) z72 (nI 1)) ∧ (b73 = true → wp_treeLine (fun z76 => J57 z76 ) z72)) z69 19) ∧ (b70 = true → wp_partnerLine (fun z77 => J57 z77 ) z69)) z66 14) ∧ (b67 = true → wp_rankLine (fun z78 => J57 z78 ) z66)) z63 15) ∧ (b64 = true → wp_chapterLine (fun z79 => J57 z79 ) z63)) z19 3)))) := by
  have h31 : ∀ z, PF c σ0 z → sx z 31 = nI c := by
    intro z p
    rw [p.1 31 (by omega), ← h.1.1 31 (by omega)]
    exact h.2.2.2.1
  have hc := h.2.2.1.1
  have hlen := h.2.1.1.2.1
  generalize hT : pLines bs (bs.length + 1) 0 (lex bs 0, E0, []) = T
  refine ⟨fun n z x => ∃ f k s, n = f ∧ x = nI k ∧ TPk c σ0 bs z s ∧ pLines bs f k s = T ∧ bs.length + 1 ≤ f + pAt s ∧ k ≤ pAt s ∧ 3 * cnL s ≤ pAt s ∧ ndL s ≤ 40, ⟨_, bs.length + 1, 0, _, rfl, rfl, h, hT, by omega, Nat.zero_le _, Nat.zero_le _, Nat.zero_le _⟩, ?_⟩
  rintro n18 z19 x22 ⟨f, k, s, rfl, hx22, T19, eT, hf, hk, hcn, hnd⟩
  have htb := T19.2.1.2.2.2
  have hat : pAt s ≤ bs.length := Nat.le_trans htb.1 htb.2.1
  obtain ⟨f', rfl⟩ : ∃ f', n18 = f' + 1 := ⟨n18 - 1, by omega⟩
  rw [pLines_step] at eT
  refine ⟨fun z x => ∃ k, x = nI k ∧ k ≤ 900 ∧ ((∃ q, TPk c σ0 bs z q ∧ T = (k, .ok q)) ∨ ∃ f, PF c σ0 z ∧ FL z f ∧ T = (k, .error f)), ?_, fun z => absurd T19.2.1.2.1 z, fun _ => ⟨fun z => ⟨k, hx22, by omega, Or.inl ⟨s, T19, ?_⟩⟩, fun z => ?_⟩⟩
  · rintro z26 x27 ⟨k, hx27, hk9, ⟨q, Tq, eq⟩ | ⟨f, P26, g, ef⟩⟩
    · have hWh : pWhole bs = if (eCh (pE q)).all (fun c => decide (0 ≤ c.2.2)) = true then (k, .ok (pE q)) else (k, er q 5) := by
        unfold pWhole
        rw [hT, eq]
      have hle := Tq.2.2.1.2.1.2.1
      have c26 := Tq.2.2.2.1
      refine ⟨fun n z x => (∃ j, j ≤ (eCh (pE q)).length ∧ n = (eCh (pE q)).length - j ∧ x = nI j ∧ z = z26 ∧ ∀ i (hi : i < (eCh (pE q)).length), i < j → 0 ≤ (eCh (pE q))[i].2.2) ∨ (∃ f, NF z26 z ∧ FL z f ∧ pWhole bs = (k, .error f)), ⟨_, Or.inl ⟨0, Nat.zero_le _, rfl, rfl, rfl, fun i hi h0 => absurd h0 (Nat.not_lt_zero _)⟩⟩, ?_⟩
      rintro n29 z30 x33 I28
      refine ⟨fun z => (z = z26 ∧ pWhole bs = (k, .ok (pE q))) ∨ (∃ f, PF c σ0 z ∧ FL z f ∧ pWhole bs = (k, .error f)), ?_, ?_⟩
      · rintro z37 (⟨rfl, eW⟩ | ⟨f, P, g, eW⟩)
        · rw [hx27]
          exact ⟨fun _ => h1 z37 k _ eW Tq.1 Tq.2.2.1 c26, fun z => absurd Tq.2.1.le z⟩
        · refine ⟨fun z => absurd z g.nle, fun _ z43 hz43 => ?_⟩
          have e48 : sx z43 48 = nI f := by rw [hz43, sx_ux, if_neg (by omega)]; exact g.1
          rw [e48]
          rw [hx27] at hz43
          exact h2 z37 k f eW P g z43 hz43
      · rcases I28 with ⟨j, hj, hn, hx33, rfl, hall⟩ | ⟨f, N, g, eW⟩
        · refine tn_chapters Tq.2.2.1 c26 rfl ?_
          show (nI (eCh (pE q)).length ≤ x33 → _) ∧ _
          rw [hx33]
          refine ⟨fun z => Or.inl ⟨rfl, ?_⟩, fun z => ⟨fun w => absurd Tq.2.1.2.1 w, fun _ => ?_⟩⟩
          · have hge : (eCh (pE q)).length ≤ j := (nI_leI (by omega) (by omega)).mp z
            rw [hWh, if_pos]
            rw [List.all_eq_true]
            intro x hx
            obtain ⟨i, hi, e⟩ := List.mem_iff_getElem.mp hx
            rw [← e]
            exact decide_eq_true (hall i hi (by omega))
          · have hlt : j < (eCh (pE q)).length := by
              rcases Nat.lt_or_ge j (eCh (pE q)).length with y | y
              · exact y
              · exact absurd (nI_le y (by omega)) z
            rw [c26, nI_mul, nI_add, nI_clamp (by omega), (Tq.2.2.1.2.1.2.2 j hlt).2.2.2.2]
            refine ⟨vp_inN (by omega) (by omega), fun w => ⟨(eCh (pE q)).length - (j + 1), by omega, Or.inl ⟨j + 1, by omega, rfl, nI_add j 1, rfl, fun i hi hij => ?_⟩⟩, fun w => ?_⟩
            · rcases Nat.lt_or_ge i j with y | y
              · exact hall i hi y
              · have : i = j := by omega
                subst this
                exact w
            · refine tn_wrong (α := Ed) Tq.2.1 (by omega) (fun z50 f n g e => ⟨0, by omega, Or.inr ⟨f, n, g, ?_⟩⟩)
              rw [hWh, if_neg, e]
              intro hA
              rw [List.all_eq_true] at hA
              exact w (of_decide_eq_true (hA _ (List.getElem_mem hlt)))
        · have P30 : PF c σ0 z30 := Tq.1.nf N
          have c30 := h31 z30 P30
          refine tn_chapters (Tq.2.2.1.nf N) c30 rfl ?_
          exact ⟨fun _ => Or.inr ⟨f, P30, g, eW⟩, fun _ => ⟨fun _ => Or.inr ⟨f, P30, g, eW⟩, fun z => absurd z g.ne⟩⟩
    · have hWh : pWhole bs = (k, .error f) := by
        unfold pWhole
        rw [hT, ef]
      refine ⟨fun _ z _ => z = z26, ⟨0, rfl⟩, ?_⟩
      rintro n29 z30 x33 rfl
      refine ⟨fun z => z = z30, ?_, ?_⟩
      · rintro z37 rfl
        refine ⟨fun z => absurd z g.nle, fun _ z43 hz43 => ?_⟩
        have e48 : sx z43 48 = nI f := by rw [hz43, sx_ux, if_neg (by omega)]; exact g.1
        rw [e48]
        rw [hx27] at hz43
        exact h2 z37 k f hWh P26 g z43 hz43
      · have c30 := h31 z30 P26
        unfold wp_chapters
        rw [c30, nI_mul]
        exact ⟨vp_inN (by omega) (by omega), fun _ => rfl, fun _ => ⟨fun _ => rfl, fun z => absurd z g.ne⟩⟩
  · have hK5 : pK s ≤ 5 := htb.2.2.2.2.2.2.2.1
    rw [T19.2.1.2.2.1.2.2.1] at z
    have hK0 : pK s = 0 := (nI_eq (a := pK s) (b := 0) (by omega) (by omega)).mp z
    rw [if_pos hK0] at eT
    exact eT.symm
  · have hK0 : ¬ pK s = 0 := fun w => z (by rw [T19.2.1.2.2.1.2.2.1]; exact congrArg nI w)
    rw [if_neg hK0] at eT
    refine ⟨fun z => OT c σ0 bs z (bnd (pKind bs s) pEnds), ?_, tl_line T19 hcn (fun z o => o)⟩
    intro z59 o59
    cases hR : bnd (pKind bs s) pEnds with
    | error fe =>
      rw [hR] at o59
      obtain ⟨P59, g⟩ := o59
      rw [pLine_er hR] at eT
      exact ⟨fun z => absurd z g.nle, fun _ => ⟨k, hx22, by omega, Or.inr ⟨fe, P59, g, eT.symm⟩⟩⟩
    | ok q =>
      rw [hR] at o59
      have T59 : TPk c σ0 bs z59 q := o59
      obtain ⟨e1, e2, e3⟩ := pLine_ok hR
      rw [e1] at eT
      obtain ⟨l1, l2, l3, l4⟩ := pKind_lg htb hnd hK0 e2
      have nq := nxt_b l1
      have eq1 := isS_p l1 e3
      refine ⟨fun _ => tn_nxt T59.2.1 (fun z61 n61 L61 _ => ⟨f', by omega, f', k + 1, nxt bs q, rfl, by rw [hx22, nI_add], T59.nf n61 L61 rfl, eT, by omega, by omega, ?_, l4 hnd⟩), fun z => absurd T59.2.1.le z⟩
      show 3 * cnL q ≤ pAt (nxt bs q)
      omega
