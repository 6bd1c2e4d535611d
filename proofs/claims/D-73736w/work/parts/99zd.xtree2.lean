/-! The component's reader: a tree, walked -/
set_option maxRecDepth 100000
theorem trk_tree {bs : List Nat} {s : PS} {r : Nat × PS} {i : Nat} {c : Ch} (h9b : bs.length ≤ 900) (hb : tkB bs s.1) (hcn : 3 * cnL s ≤ pAt s) (hI : LIe (pE s)) (hc : (eCh (pE s))[i]? = some c) (h0 : c.2.2 = -1) (hr : pN bs i 9 ((nxt bs (nxt bs s)).1, pE s, []) = .ok r) (hAI : AIx (pA r.2)) : trk (pE r.2) (pA r.2) i ∧ (∀ k A, k ≠ i → trk (pE s) A k → trk (pE r.2) A k) ∧ eCh (pE r.2) = eCh (pE s) ∧ r.1 < 1000 := by
  obtain ⟨ct, h1, h2, h3, h4, h5, h6, h7, h8, h9, h10⟩ := hI
  have n1 := nxt_b hb
  have n2 := nxt_b n1.1
  have hat1 : pAt s ≤ pP s := hb.1
  have hat2 : pAt (nxt bs s) ≤ pP (nxt bs s) := n1.1.1
  have I0 : Inv (cnL s) ((nxt bs (nxt bs s)).1, pE s, []) := by
    have no : ∀ (j : Nat) (k : Cn), cnL s ≤ j → (eCn (pE s))[j]? = some k → False := by
      intro j k hj hk
      rw [List.getElem?_eq_none hj] at hk
      cases hk
    exact ⟨h1, ⟨fun w => Nat.zero_le _, fun w j k hk => (by cases hk), fun j k hj hk _ => (no j k hj hk).elim⟩, fun j k hj hk => (no j k hj hk).elim⟩
  obtain ⟨k1, k2, k3, k4, k5, k6, k7, k8⟩ := pN_ng 9 ((nxt bs (nxt bs s)).1, pE s, []) r n2.1 h10 hr
  obtain ⟨⟨v1, v2, v3, v4, v5, v6, v7, v8⟩, v9⟩ := pN_nv (b := cnL s) h9b 9 ((nxt bs (nxt bs s)).1, pE s, []) r n2.1 h10 h9 (by show 3 * cnL s ≤ pAt (nxt bs (nxt bs s)); omega) (Nat.le_refl _) I0 h8 hr
  have low : ∀ (n : Nat) (x : Nd), n < (eNd (pE s)).length → (eNd (pE r.2))[n]? = some x → (eNd (pE s))[n]? = some x := fun n x hn hx => by rw [← k5 n hn]; exact hx
  refine ⟨⟨hAI, cnL s, cnL r.2, Nat.le_refl _, fun n x hx hxc hneg => ?_, fun j k hj hj2 hk => ?_⟩, fun k A hk ht => ?_, k8, ?_⟩
  · rcases Nat.lt_or_ge n (eNd (pE s)).length with z | z
    · exfalso
      have hx0 := low n x z hx
      obtain ⟨a1, a2, a3⟩ := h2 n x hx0
      obtain ⟨b1, b2, b3, b4, b5, b6, -⟩ := a2 hneg
      obtain ⟨c', c1, c2⟩ := h6 x.2.1 b5
      rw [b6, hxc, hc] at c1
      cases c1
      rw [h0] at c2
      exact absurd c2 (by decide)
    · obtain ⟨a1, a2, a3⟩ := v4 n x z hx
      obtain ⟨b1, b2, b3, b4, b5, b6⟩ := a2 hneg
      exact ⟨b6, b5⟩
  · obtain ⟨w1, w2, w3⟩ := v1
    obtain ⟨u1, u2⟩ := w3 j k hj hk
    exact ⟨u1, u2, fun z => w2.2.2 j k hj hk z⟩
  · obtain ⟨t0, b, t, t1, t2, t3⟩ := ht
    obtain ⟨l, hl⟩ := v3
    have hpre : ∀ (j : Nat) (x : Cn), j < (eCn (pE s)).length → (eCn (pE r.2))[j]? = some x → (eCn (pE s))[j]? = some x := fun j x hj hx => by
      have hl' : eCn (pE r.2) = eCn (pE s) ++ l := hl
      rw [hl', List.getElem?_append_left hj] at hx
      exact hx
    refine ⟨t0, b, t, ?_, fun n x hx hxc hneg => ?_, fun j k' hj hj2 hk' => t3 j k' hj hj2 (hpre j k' (by omega) hk')⟩
    · have hl' : eCn (pE r.2) = eCn (pE s) ++ l := hl
      rw [hl', List.length_append]; omega
    · rcases Nat.lt_or_ge n (eNd (pE s)).length with z | z
      · exact t2 n x (low n x z hx) hxc hneg
      · exfalso
        exact hk (hxc.symm.trans (v4 n x z hx).1)
  · have : r.1 = (eNd (pE s)).length := k4
    omega
theorem px_tree {G : GP} {y0 : HS} {n0 : Nat} {R e X tp ln B : Nat} {bs : List Nat} {y : HS} {s : PS} {D : LM} {K : Nat → Nat} {g : EG} {gA : Nat → List Cn} {post : HS → Prop} {xp : Nat → Nat → HS → Prop} (hG : GK G) (h9b : bs.length ≤ 900) (h : LXs G y0 n0 R e X tp ln bs y s D K g gA) (hw : isW s 19 = true) (hBo : ∀ q, pTree bs s = .ok q → mu bs q ≤ mu bs s + B) (hBe : ∀ f, pTree bs s = .error f → 5 * bs.length + 95 ≤ mu bs s + B)
    (hp : ∀ y' q D' K' g' gA', pTree bs s = .ok q → LXs G y0 n0 R e X tp ln bs y' q D' K' g' gA' → post y') (hx : ∀ f q y', pTree bs s = .error f → XF G R ln f n0 y0 6 q y' → xp 6 q y') : wp_X6_tree G B post xp y R := by
  obtain ⟨⟨op, ch, P⟩, hLI, hcn, he, hA0, hA1, hcov, hXn, hRn⟩ := h
  have ht := P.1.2.1
  have hk0 : pK s ≠ 0 := by have := (of_decide_eq_true hw).1; omega
  have hlw := isW_p ht.b hw
  have l19 : (wd 19).length = 4 := by decide
  have c0 := cN_mu5 ht
  have c1 := cN_mu5 ht.nxt
  have m0 := mu_le ht
  have m2 := mu_le ht.nxt.nxt
  obtain ⟨ct, li1, -, -, -, -, -, li7, li8, li9, li10⟩ := id hLI
  have q4 : ∀ p, cN bs p ≤ 4 := fun p => by
    unfold cN
    split
    · omega
    · split <;> omega
  have q40 := q4 (pP s)
  have q41 := q4 (pP (nxt bs s))
  have bud : mu bs (nxt bs (nxt bs s)) ≤ mu bs s + B ∨ 5 * bs.length + 95 ≤ mu bs s + B := by
    cases hr : pTree bs s with
    | error f => exact Or.inr (hBe f hr)
    | ok q =>
      refine Or.inl ?_
      have hB := hBo q hr
      obtain ⟨hn, c, r, hc, h0, hr2, rfl⟩ := pTree_ok hr
      have := ((RnN bs _ 9).1 _ _ (show isTok bs (((nxt bs (nxt bs s)).1, pE s, []) : PS).1 from ht.nxt.nxt) hr2).2
      have e1 : mu bs (((nxt bs (nxt bs s)).1, pE s, []) : PS) = mu bs (nxt bs (nxt bs s)) := mu_eq rfl
      have hB' : mu bs r.2 ≤ mu bs s + B := hB
      omega
  have hB1 : cN bs (pP s) + cN bs (pP (nxt bs s)) ≤ B ∧ (5 * bs.length + 95 ≤ mu bs s + B → cN bs (pP s) + 1 ≤ B) := ⟨by rcases bud with z | z <;> omega, fun z => by omega⟩
  obtain ⟨tk, cR⟩ := P.1.cell
  refine ⟨fun y3 u6 b4 r5 => u6 = cN bs (pP s) ∧ r5 = some R ∧ nameOk (nxt bs s) = true ∧ ((b4 = true ∧ ∃ c cq, (eCh (pE s))[chI (pE s) (pW (nxt bs s))]? = some c ∧ c.2.2 = -1 ∧ (gXc g)[chI (pE s) (pW (nxt bs s))]? = some cq ∧ PX G y0 n0 y3 R e X tp op ln (some cq) bs (nxt bs s) (ndL s) D K g gA) ∨ (b4 = false ∧ pTree bs s = .error (8 * pAt (nxt bs s) + 3) ∧ ∃ ch', PX G y0 n0 y3 R e X tp op ln ch' bs (nxt bs s) (ndL s) D K g gA)), ?_, fun y3 u6 r5 => u6 = cN bs (pP s) ∧ r5 = some R ∧ nameOk (nxt bs s) = true ∧ pTree bs s = .error (8 * pAt (nxt bs s) + 3) ∧ ∃ ch', PX G y0 n0 y3 R e X tp op ln ch' bs (nxt bs s) (ndL s) D K g gA, ?_, P.rdr, cN bs (pP s), by omega, px_nxt P (Nat.le_refl _) (fun y29 P29 Q29 _ => ?_)⟩
  · rintro y3 u6 b4 r5 ⟨rfl, rfl, hok, ⟨rfl, c, cq, hc, hc1, hcq, P3⟩ | ⟨rfl, eE, ch', P3⟩⟩
    · refine ⟨by omega, R, rfl, P3.rdr, 0, by omega, xp_must P3.1 (fun hb => by cases hb) (fun _ => ⟨P3.rdr, cN bs (pP (nxt bs s)), by omega, px_nxt P3 (Nat.le_refl _) (fun y11 P11 Q11 _ => ?_)⟩) (fun hb => by cases hb)⟩
      obtain ⟨tk11, cR11⟩ := P11.1.cell
      refine ⟨_, cR11, by show 6 < 10; omega, fun y14 hy14 => ?_⟩
      have e14 : y14 = hput y11 R (ob 4 [.int (nI bs.length), va_rf (some e), .int (nI (pP (nxt bs (nxt bs s)))), .int (nI (pAt (nxt bs (nxt bs s)))), va_rf tk11, .int (if pK (nxt bs (nxt bs s)) = 0 then 1 else 0), .int (nI 0), .int (nI ln), va_rf (some cq), va_rf (some X)]) := by
        rw [hy14]; rfl
      have Q14 : Qs y11 y14 := by rw [e14]; exact Qs.put4 cR11
      have P14 : PX G y0 n0 y14 R e X tp 0 ln (some cq) bs (nxt bs (nxt bs s)) (ndL s) D K g gA := P11.q (by rw [e14]; exact P11.1.wr cR11) rfl Q14
      have cR14 : y14.1 R = some (ob 4 [.int (nI bs.length), va_rf (some e), .int (nI (pP (nxt bs (nxt bs s)))), .int (nI (pAt (nxt bs (nxt bs s)))), va_rf tk11, .int (if pK (nxt bs (nxt bs s)) = 0 then 1 else 0), .int (nI 0), .int (nI ln), va_rf (some cq), va_rf (some X)]) := by rw [e14, hput_at]
      refine ⟨_, ⟨_, cR14, rfl⟩, P14.rdr, ?_⟩
      have hil : chI (pE s) (pW (nxt bs s)) < (eCh (pE s)).length := (List.getElem?_eq_some_iff.mp hc).1
      have NX14 : NX G y0 n0 R e X tp ln bs (chI (pE s) (pW (nxt bs s))) cq (9 - 9) y14 ((nxt bs (nxt bs s)).1, pE s, []) D K g gA := ⟨⟨⟨P14.1.mv rfl P14.1.wf (fun _ _ h _ => h) (fun _ _ => rfl) (Nat.le_refl _), P14.2.1, P14.2.2⟩, hcq, hil, hA0 _ c hc hc1, AIx.nil⟩, li8, ⟨li10, hRn⟩, he.1, he.2.1, he.2.2⟩
      have e0 : pTree bs s = bnd (pN bs (chI (pE s) (pW (nxt bs s))) 9 ((nxt bs (nxt bs s)).1, pE s, [])) (fun r => .ok (sEd r.2 (uCh (pE r.2) ((eCh (pE r.2)).set (chI (pE s) (pW (nxt bs s))) (c.1, c.2.1, nI r.1))))) := by
        unfold pTree
        rw [if_neg (nz' hok), hc]
        show (if 0 ≤ c.2.2 then _ else _) = _
        rw [if_neg (by rw [hc1]; decide)]
      have t2 : isTok bs (((nxt bs (nxt bs s)).1, pE s, []) : PS).1 := ht.nxt.nxt
      have e2 : mu bs (((nxt bs (nxt bs s)).1, pE s, []) : PS) = mu bs (nxt bs (nxt bs s)) := mu_eq rfl
      have hat : pAt s ≤ pAt (nxt bs (nxt bs s)) := by
        have z1 := (nxt_b ht.b).2
        have z2 := (nxt_b ht.nxt.b).2
        have z3 : pAt (nxt bs s) ≤ pP (nxt bs s) := ht.nxt.b.1
        have z4 : pAt s ≤ pP s := ht.b.1
        omega
      have hcn2 : 3 * cnL (((nxt bs (nxt bs s)).1, pE s, []) : PS) ≤ pAt (((nxt bs (nxt bs s)).1, pE s, []) : PS) := by
        show 3 * cnL s ≤ pAt (nxt bs (nxt bs s))
        omega
      have hN := px_N (G := G) (y0 := y0) (n0 := n0) (R := R) (e := e) (X := X) (tp := tp) (ln := ln) (bs := bs) (tc := chI (pE s) (pW (nxt bs s))) (cq := cq) hG 9 (by omega) d_xnode (by decide)
      cases hr : pN bs (chI (pE s) (pW (nxt bs s))) 9 ((nxt bs (nxt bs s)).1, pE s, []) with
      | error f =>
        have eE : pTree bs s = .error f := by rw [e0, hr]; rfl
        have hB := hBe f eE
        refine ⟨B - (cN bs (pP s) + cN bs (pP (nxt bs s))), by omega, hN _ _ xp y14 _ D K g gA NX14 hcn2 (fun v hv => ?_) (fun _ _ => by omega) (fun y' q v D' K' g' gA' hv => ?_) (fun f9 q9 y9 hf hF => ?_)⟩
        · rw [hr] at hv; cases hv
        · rw [hr] at hv; cases hv
        · rw [hr] at hf; cases hf; exact hx _ q9 y9 eE hF
      | ok r =>
        have eS : pTree bs s = .ok (sEd r.2 (uCh (pE r.2) ((eCh (pE r.2)).set (chI (pE s) (pW (nxt bs s))) (c.1, c.2.1, nI r.1)))) := by rw [e0, hr]; rfl
        have hB : mu bs r.2 ≤ mu bs s + B := by have z := hBo _ eS; exact z
        obtain ⟨tr1, tr2⟩ := (RnN bs _ 9).1 _ _ t2 hr
        refine ⟨mu bs r.2 - mu bs (nxt bs (nxt bs s)), by omega, hN _ _ xp y14 _ D K g gA NX14 hcn2 (fun v hv => ?_) (fun f hf => ?_) (fun y17 q r' D' K' g' gA' hv N17 X17 hN17 cov17 => ?_) (fun f9 q9 y9 hf hF => ?_)⟩
        · rw [hr] at hv; cases hv; omega
        · rw [hr] at hf; cases hf
        · rw [hr] at hv
          cases hv
          obtain ⟨C17, cl17, n17, he17⟩ := N17
          obtain ⟨tok, nm, l, la, ll, trr, xs, dR, d1, -⟩ := C17.chap
          obtain ⟨tk1, tk2, tk3, tk4⟩ := trk_tree h9b ht.b hcn hLI hc hc1 hr C17.2.2.2.2
          have hcr : (eCh (pE r.2))[chI (pE s) (pW (nxt bs s))]? = some c := by rw [tk3]; exact hc
          refine ⟨cq, rfl, _, d1, by show 2 < 5; omega, fun y22 hy22 => ?_⟩
          have PT := C17.1.tree (q := q) (r := r.1) (hXn cq (List.mem_of_getElem? hcq)) C17.2.1 hcr d1 (hN17 11 (by omega)) tk4
          have e22 : y22 = hput y17 cq (ob 7 [va_rf (some nm), va_rf (some l), va_rf (some q), va_rf (some la), va_rf (some ll)]) := by rw [hy22]; rfl
          rw [← e22] at PT
          obtain ⟨lg1, lg2, lg3, lg4⟩ := pTree_lg ht.b li10 hk0 eS
          have hsn : ∀ (k : Nat) (c' : Ch), ((eCh (pE r.2)).set (chI (pE s) (pW (nxt bs s))) (c.1, c.2.1, nI r.1))[k]? = some c' → (k = chI (pE s) (pW (nxt bs s)) ∧ c'.2.2 = nI r.1) ∨ (k ≠ chI (pE s) (pW (nxt bs s)) ∧ (eCh (pE s))[k]? = some c') := fun k c' hk => by
            by_cases e9 : k = chI (pE s) (pW (nxt bs s))
            · subst e9
              rw [List.getElem?_set_self (by rw [tk3]; exact hil)] at hk
              cases hk
              exact Or.inl ⟨rfl, rfl⟩
            · rw [List.getElem?_set_ne (fun z => e9 z.symm), tk3] at hk
              exact Or.inr ⟨e9, hk⟩
          refine hp y22 _ D' K' g' gA' eS ⟨⟨9 - 9, some cq, PT⟩, pTree_li h9b ht.b hcn hLI eS, by omega, ⟨he17.1, he17.2.1, he17.2.2⟩, fun k c' hk hz => ?_, fun k c' hk hz => ?_, fun n hn => ?_, fun c' hc' => ?_, n17.2⟩
          · rcases hsn k c' hk with ⟨-, z⟩ | ⟨z1, z2⟩
            · rw [z] at hz
              exfalso
              have h2 : (nI r.1).toInt = (-1 : Int32).toInt := by rw [hz]
              rw [nI_toInt (by omega)] at h2
              have h3 : (-1 : Int32).toInt = -1 := by decide
              omega
            · rw [X17.2.2.2.2.2.2.2.2.2 k z1]
              exact hA0 k c' z2 hz
          · rcases hsn k c' hk with ⟨z, -⟩ | ⟨z1, z2⟩
            · subst z
              rw [C17.2.2.2.1]
              exact tk1
            · rw [X17.2.2.2.2.2.2.2.2.2 k z1]
              exact tk2 k _ z1 (hA1 k c' z2 hz)
          · have hn' : n < ndL r.2 := hn
            rcases Nat.lt_or_ge n (ndL s) with z | z
            · obtain ⟨d, hd⟩ := hcov n z
              refine ⟨d, ?_⟩
              rw [X17.2.2.2.2.2.2.1 n z]
              exact X17.2.2.2.2.1 _ _ _ hd
            · exact cov17 n z hn'
          · rw [X17.2.2.2.2.2.2.2.2.1] at hc'
            exact hXn c' hc'
        · rw [hr] at hf; cases hf
    · have hB := hBe _ eE
      exact ⟨by omega, R, rfl, P3.rdr, 1, by omega, xp_must P3.1 (fun _ => Nat.le_refl _) (fun hb => by cases hb) (fun _ q' y' hF => hx _ q' y' eE hF)⟩
  · rintro y26 u28 r27 ⟨rfl, rfl, hok, eE, ch', P'⟩
    exact ⟨by omega, rfl, rfl, hok, Or.inr ⟨rfl, eE, ch', P'⟩⟩
  · obtain ⟨tk29, cR29⟩ := P29.1.cell
    refine ⟨_, ⟨_, cR29, rfl⟩, P29.rdr, if nameOk (nxt bs s) = true then 0 else 1, ?_, px_name hG P29 (fun hb => ?_) (fun y33 q hok P33 Q33 S33 => ?_) (fun hb q y' hF => ?_)⟩
    · split
      · omega
      · next hno =>
        have eE : pTree bs s = er (nxt bs s) 1 := by
          unfold pTree
          rw [if_pos (Bool.eq_false_iff.mpr hno)]
        have := hB1.2 (hBe _ eE)
        omega
    · rw [if_neg (nz hb)]; exact Nat.le_refl _
    · have put : ∀ (ro : Option Nat), ∃ fs42, y33.1 R = some (ob 4 fs42) ∧ 8 < fs42.length ∧ ∀ y41, y41 = hput y33 R (ob 4 (fs42.set 8 (va_rf ro))) → PX G y0 n0 y41 R e X tp op ln ro bs (nxt bs s) (ndL s) D K g gA ∧ (∃ tk, y41.1 R = some (ob 4 [.int (nI bs.length), va_rf (some e), .int (nI (pP (nxt bs s))), .int (nI (pAt (nxt bs s))), va_rf tk, .int (if pK (nxt bs s) = 0 then 1 else 0), .int (nI op), .int (nI ln), va_rf ro, va_rf (some X)])) := fun ro => by
        obtain ⟨tk33, cR33⟩ := P33.1.cell
        refine ⟨_, cR33, by show 8 < 10; omega, fun y41 hy41 => ?_⟩
        have e41 : y41 = hput y33 R (ob 4 [.int (nI bs.length), va_rf (some e), .int (nI (pP (nxt bs s))), .int (nI (pAt (nxt bs s))), va_rf tk33, .int (if pK (nxt bs s) = 0 then 1 else 0), .int (nI op), .int (nI ln), va_rf ro, va_rf (some X)]) := by rw [hy41]; rfl
        have Q41 : Qs y33 y41 := by rw [e41]; exact Qs.put4 cR33
        exact ⟨P33.q (by rw [e41]; exact P33.1.wr cR33) rfl Q41, tk33, by rw [e41, hput_at]⟩
      refine ⟨e, rfl, ⟨_, Or.inl P33.2.2.1.1⟩, sp_find hG P33.2.1.1 P33.2.2 S33 (fun hno => ?_) (fun k hk hk2 hki => ?_)⟩
      · have eE : pTree bs s = .error (8 * pAt (nxt bs s) + 3) := by
          unfold pTree
          rw [if_neg (nz' hok)]
          have hno' : chI (pE s) (pW (nxt bs s)) = (eCh (pE s)).length := hno
          rw [List.getElem?_eq_none (by omega)]
          rfl
        obtain ⟨fs42, z1, z2, z3⟩ := put none
        refine ⟨fs42, z1, z2, fun y41 hy41 => ?_⟩
        obtain ⟨P41, tk41, cR41⟩ := z3 y41 hy41
        refine ⟨none, ⟨_, cR41, rfl⟩, fun _ => ⟨?_, rfl, hok, eE, none, P41⟩, fun a z => (by cases z)⟩
        rw [if_pos hok]; omega
      · have hk' : k < (eCh (pE s)).length := hk
        have hki' : chI (pE s) (pW (nxt bs s)) = k := hki
        obtain ⟨fs42, z1, z2, z3⟩ := put (some (gXc g)[k])
        refine ⟨fs42, z1, z2, fun y41 hy41 => ?_⟩
        obtain ⟨P41, tk41, cR41⟩ := z3 y41 hy41
        have hcc : (eCh (pE s))[chI (pE s) (pW (nxt bs s))]? = some (eCh (pE s))[k] := by rw [hki', List.getElem?_eq_getElem hk']
        have hxx : (gXc g)[chI (pE s) (pW (nxt bs s))]? = some (gXc g)[k] := by rw [hki', List.getElem?_eq_getElem hk2]
        obtain ⟨nm, l, la, ll, trr, d1, -, -, -, -, -, -, d9⟩ := P41.2.2.2.2.2.2.2.2.2 k hk' hk2
        have eU : cN bs (pP s) + (if nameOk (nxt bs s) = true then 0 else 1) = cN bs (pP s) := by rw [if_pos hok, Nat.add_zero]
        refine ⟨_, ⟨_, cR41, rfl⟩, fun z => (by cases z), fun a45 ha45 => ⟨_, ⟨_, cR41, rfl⟩, _, rfl, trr, ⟨_, d1, rfl⟩, fun hn => ⟨by omega, rfl, hok, Or.inl ⟨rfl, _, _, hcc, ?_, hxx, P41⟩⟩, fun a50 ha50 => ⟨by omega, rfl, hok, ?_, _, P41⟩⟩⟩
        · rcases d9 with ⟨z, -⟩ | ⟨t, z, -⟩
          · exact z
          · rw [z] at hn; cases hn
        · rcases d9 with ⟨-, z⟩ | ⟨t, -, z, -⟩
          · rw [z] at ha50; cases ha50
          · unfold pTree
            rw [if_neg (nz' hok), hcc]
            show (if 0 ≤ (eCh (pE s))[k].2.2 then _ else _) = _
            rw [if_pos (show 0 ≤ (eCh (pE s))[k].2.2 from z)]
            rfl
    · exact hx _ q y' (by unfold pTree; rw [if_pos hb]; rfl) hF
