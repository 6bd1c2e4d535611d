/-! The component's reader: leaves, walked -/
set_option maxRecDepth 100000
/-- the state at a node of the tree of the chapter tc -/
def NX (G : GP) (y0 : HS) (n0 : Nat) (R e X tp ln : Nat) (bs : List Nat) (tc cq op : Nat) (y : HS) (s : PS) (D : LM) (K : Nat → Nat) (g : EG) (gA : Nat → List Cn) : Prop := CX G y0 n0 R e X tp ln bs tc cq (ndL s) op y s D K g gA ∧ clOk (pE s) ∧ (ndL s ≤ 40 ∧ ∀ d r n, gNR g d r n → n0 ≤ r) ∧ n0 ≤ e ∧ n0 ≤ (gLs g).2.2.2.2.2.1 ∧ n0 ≤ (gLs g).2.2.2.2.2.2
/-- what a node leaves as it was -/
def NExt (tc nd0 : Nat) (y : HS) (D : LM) (K : Nat → Nat) (g : EG) (gA : Nat → List Cn) (y' : HS) (D' : LM) (K' : Nat → Nat) (g' : EG) (gA' : Nat → List Cn) : Prop := Ns y y' ∧ KF y D y' D' ∧ (∀ l xs, D l = some xs → 100 ≤ K l → D' l = some xs ∧ K' l = K l) ∧ (∀ d r i, gCR g d r i → gCR g' d r i) ∧ (∀ d r n, gNR g d r n → gNR g' d r n) ∧ (∀ d r n, gNR g' d r n → gNR g d r n ∨ nd0 ≤ n) ∧ (∀ n, n < nd0 → gNa g' n = gNa g n) ∧ gLs g' = gLs g ∧ gXc g' = gXc g ∧ ∀ k, k ≠ tc → gA' k = gA k
theorem CExt.n {tc nd0 : Nat} {y y' : HS} {D D' : LM} {K K' : Nat → Nat} {g g' : EG} {A A' : Nat → List Cn} (h : CExt tc y D K g A y' D' K' g' A') : NExt tc nd0 y D K g A y' D' K' g' A' := by
  obtain ⟨a1, a2, a3, a4, a5, a6, a7, a8, a9⟩ := h
  exact ⟨a1.ns, a2, a3, a4, fun d r n z => by rw [a5]; exact z, fun d r n z => Or.inl (by rw [a5] at z; exact z), fun n _ => by rw [a6], a7, a8, a9⟩
theorem NExt.tr {tc n1 n2 : Nat} {y1 y2 y3 : HS} {D1 D2 D3 : LM} {K1 K2 K3 : Nat → Nat} {g1 g2 g3 : EG} {A1 A2 A3 : Nat → List Cn} (hn : n1 ≤ n2) (h : NExt tc n1 y1 D1 K1 g1 A1 y2 D2 K2 g2 A2) (k : NExt tc n2 y2 D2 K2 g2 A2 y3 D3 K3 g3 A3) : NExt tc n1 y1 D1 K1 g1 A1 y3 D3 K3 g3 A3 := by
  obtain ⟨a1, a2, a3, a4, a5, a6, a7, a8, a9, a10⟩ := h
  obtain ⟨b1, b2, b3, b4, b5, b6, b7, b8, b9, b10⟩ := k
  refine ⟨a1.tr b1, a2.tr b2, fun l xs hl hk => ?_, fun d r i z => b4 _ _ _ (a4 _ _ _ z), fun d r i z => b5 _ _ _ (a5 _ _ _ z), fun d r n z => ?_, fun n hn' => (b7 n (by omega)).trans (a7 n hn'), b8.trans a8, b9.trans a9, fun j hj => (b10 j hj).trans (a10 j hj)⟩
  · obtain ⟨c1, c2⟩ := a3 l xs hl hk
    obtain ⟨d1, d2⟩ := b3 l xs c1 (by omega)
    exact ⟨d1, d2.trans c2⟩
  · rcases b6 d r n z with z | z
    · exact a6 d r n z
    · exact Or.inr (by omega)
theorem nz' {b : Bool} (h : b = true) : ¬ b = false := by rw [h]; decide
theorem nm_of {bs : List Nat} {l : LxS} (h : tkB bs l) (hk : l.2.1.1 = 2) : isNm l.2.1.2.1 := by
  obtain ⟨-, h8, h1, hl⟩ := h.2.2.2.2.1 hk
  refine ⟨h1, h8, fun b hb => ?_⟩
  have := hl b hb
  unfold isLt at this
  rw [Bool.and_eq_true, Nat.ble_eq, Nat.ble_eq] at this
  exact this
theorem px_leaf {G : GP} {y0 : HS} {n0 : Nat} {R e X tp ln B : Nat} {bs : List Nat} {tc cq op : Nat} {y : HS} {s : PS} {D : LM} {K : Nat → Nat} {g : EG} {gA : Nat → List Cn} {post : Option Nat → HS → Prop} {xp : Nat → Nat → HS → Prop} (hG : GK G) (h : NX G y0 n0 R e X tp ln bs tc cq op y s D K g gA) (hw : isW s 4 = true) (h40 : ndL s < 40) (hBo : ∀ v, pLeaf bs tc s = .ok v → mu bs v.2 ≤ mu bs s + B) (hBe : ∀ f, pLeaf bs tc s = .error f → 5 * bs.length + 90 ≤ mu bs s + B)
    (hp : ∀ y' q v D' g', pLeaf bs tc s = .ok v → NX G y0 n0 R e X tp ln bs tc cq op y' v.2 D' K g' gA → NExt tc (ndL s) y D K g gA y' D' K g' gA → (∀ d, gNR g' d q v.1) → (∀ n, ndL s ≤ n → n < ndL v.2 → ∃ d, gNR g' d (gNa g' n) n) → post (some q) y') (hx : ∀ f q y', pLeaf bs tc s = .error f → XF G R ln f n0 y0 6 q y' → xp 6 q y') : wp_X6_leaf G B post xp y R := by
  obtain ⟨hC, hcl, ⟨-, hRn⟩, he1, he2, he3⟩ := h
  have ht := hC.1.1.2.1
  have hlw := isW_p ht.b hw
  have l4 : (wd 4).length = 5 := by decide
  have c0 := cN_mu5 ht
  have c1 := cN_mu5 ht.nxt
  have c2 := cN_mu5 ht.nxt.nxt
  have m3 := mu_le ht.nxt.nxt.nxt
  have l16 : (eCl (pE s)).length ≤ 16 := hC.1.2.2.1.2.2.2.2.2.2.2
  have hkL : clI (pE s) (pW (nxt bs s)) ≤ (eCl (pE s)).length := List.findIdx_le_length
  have e0 : pLeaf bs tc s = (if nameOk (nxt bs s) = false then er (nxt bs s) 1 else
      if clI (pE s) (pW (nxt bs s)) = 16 then er (nxt bs s) 4 else
      if pK (nxt bs (nxt bs s)) ≠ 3 then er (nxt bs (nxt bs s)) 1 else
      if ¬ (1 ≤ pNm (nxt bs (nxt bs s)) ∧ pNm (nxt bs (nxt bs s)) ≤ 999) then er (nxt bs (nxt bs s)) 2 else
      if (((eCl (pE s))[clI (pE s) (pW (nxt bs s))]?).map (fun x => x.2)).getD (nI (pNm (nxt bs (nxt bs s)))) ≠ nI (pNm (nxt bs (nxt bs s))) then er (nxt bs (nxt bs s)) 3 else
      .ok ((eNd (pE s)).length, sEd (nxt bs (nxt bs (nxt bs s))) (uCl (uNd (pE s) (eNd (pE s) ++ [(nI (clI (pE s) (pW (nxt bs s))), 0, 0, 0, tc)]))
        (if clI (pE s) (pW (nxt bs s)) = (eCl (pE s)).length then eCl (pE s) ++ [(pW (nxt bs s), nI (pNm (nxt bs (nxt bs s))))] else eCl (pE s))))) := by
    unfold pLeaf
    rw [if_neg (show ¬ (eNd (pE s)).length = 40 by show ¬ ndL s = 40; omega)]
  -- the budget
  have hbud : 5 * bs.length + 90 ≤ mu bs s + B ∨ (mu bs (nxt bs (nxt bs (nxt bs s))) ≤ mu bs s + B ∧ pAt (nxt bs s) + 1 ≤ pP (nxt bs s) ∧ pAt (nxt bs (nxt bs s)) + 1 ≤ pP (nxt bs (nxt bs s)) ∧ clI (pE s) (pW (nxt bs s)) ≠ 16) := by
    cases hr : pLeaf bs tc s with
    | error f => exact Or.inl (hBe f hr)
    | ok v =>
      refine Or.inr ?_
      have hB := hBo v hr
      rw [e0] at hr
      split at hr
      · cases hr
      · next hno =>
        have hk1 : pK (nxt bs s) = 2 := (of_decide_eq_true (Bool.not_eq_false _ ▸ hno)).1
        split at hr
        · cases hr
        · next h16 =>
          split at hr
          · cases hr
          · next h3 =>
            split at hr
            · cases hr
            · split at hr
              · cases hr
              · cases hr
                have hk3 : pK (nxt bs (nxt bs s)) = 3 := Decidable.not_not.mp h3
                exact ⟨hB, ht.nxt.b.2.2.1 (by show pK (nxt bs s) ≠ 0; omega), ht.nxt.nxt.b.2.2.1 (by show pK (nxt bs (nxt bs s)) ≠ 0; omega), h16⟩
  have hkc : ∃ kc, kc = (if clI (pE s) (pW (nxt bs s)) < (eCl (pE s)).length then clI (pE s) (pW (nxt bs s)) + 1 else (eCl (pE s)).length) ∧ kc ≤ 16 ∧ (clI (pE s) (pW (nxt bs s)) = (eCl (pE s)).length → clI (pE s) (pW (nxt bs s)) ≠ 16 → kc ≤ 15) := ⟨_, rfl, by split <;> omega, fun z z2 => by rw [if_neg (by omega)]; omega⟩
  obtain ⟨kc, hkc1, hkc2, hkc3⟩ := hkc
  have hck : cN bs (pP s) + kc + cN bs (pP (nxt bs s)) + cN bs (pP (nxt bs (nxt bs s))) + 5 ≤ B ∧ (clI (pE s) (pW (nxt bs s)) = (eCl (pE s)).length → clI (pE s) (pW (nxt bs s)) ≠ 16 → cN bs (pP s) + kc + cN bs (pP (nxt bs s)) + cN bs (pP (nxt bs (nxt bs s))) + 6 ≤ B) ∧ (5 * bs.length + 90 ≤ mu bs s + B → cN bs (pP s) + kc + cN bs (pP (nxt bs s)) + 61 ≤ B) := by
    have m0 := mu_le ht
    have m2 := mu_le ht.nxt.nxt
    have q1 : ∀ p, cN bs p ≤ 4 := fun p => by
      unfold cN
      split
      · omega
      · split <;> omega
    have q2 := q1 (pP s)
    have q3 := q1 (pP (nxt bs s))
    have q4 := q1 (pP (nxt bs (nxt bs s)))
    refine ⟨?_, fun z1 z2 => ?_, fun z => by omega⟩
    · rcases hbud with z | ⟨z, z1, z2, z3⟩
      · omega
      · omega
    · have := hkc3 z1 z2
      rcases hbud with z | ⟨z, z1, z2, z3⟩
      · omega
      · omega
  obtain ⟨tk, cR⟩ := hC.1.1.cell
  refine ⟨fun y3 u8 r4 x5 b6 r7 => u8 = cN bs (pP s) + kc ∧ r7 = some R ∧ nameOk (nxt bs s) = true ∧ x5 = (if clI (pE s) (pW (nxt bs s)) < (eCl (pE s)).length then nI (clI (pE s) (pW (nxt bs s))) else -1) ∧ b6 = decide (¬ clI (pE s) (pW (nxt bs s)) = 16) ∧ PX G y0 n0 y3 R e X tp op ln (some cq) bs (nxt bs s) (ndL s + 1) D K g gA ∧ Ns y y3 ∧ KF y D y3 D ∧ ∃ q, r4 = some q ∧ stW G y3 q (pW (nxt bs s)), ?_, fun y3 u8 r4 x5 r7 => u8 = cN bs (pP s) + kc ∧ r7 = some R ∧ nameOk (nxt bs s) = true ∧ x5 = (if clI (pE s) (pW (nxt bs s)) < (eCl (pE s)).length then nI (clI (pE s) (pW (nxt bs s))) else -1) ∧ ¬ clI (pE s) (pW (nxt bs s)) = 16 ∧ PX G y0 n0 y3 R e X tp op ln (some cq) bs (nxt bs s) (ndL s + 1) D K g gA ∧ Ns y y3 ∧ KF y D y3 D ∧ ∃ q, r4 = some q ∧ stW G y3 q (pW (nxt bs s)), ?_, _, ⟨_, cR, rfl⟩, e, rfl, px_inc hC.1 he1 (fun y94 P94 N94 F94 => ⟨P94.rdr, cN bs (pP s), by omega, px_nxt P94 (Nat.le_refl _) (fun y96 P96 Q96 _ => ⟨P96.rdr, if nameOk (nxt bs s) = true then 0 else 1, by split <;> omega, px_name hG P96 (fun hb => ?_) (fun y99 q hok P99 Q99 S99 => ?_) (fun hb q y' hF => ?_)⟩)⟩)⟩
  · rintro y3 u8 r4 x5 b6 r7 ⟨rfl, rfl, hok, rfl, rfl, P3, N3, F3, q, rfl, S3⟩
    rw [if_neg (nz' hok)] at e0
    have hk1 : pK (nxt bs s) = 2 := (of_decide_eq_true hok).1
    have hnm : isNm (pW (nxt bs s)) := nm_of ht.nxt.b hk1
    by_cases h16 : clI (pE s) (pW (nxt bs s)) = 16
    · rw [if_pos h16] at e0
      have hB := hBe _ e0
      have hB2 := hck.2.2 hB
      rw [decide_eq_false (fun z => z h16)]
      exact ⟨by omega, fun _ _ => False, fun _ _ z => z.elim, R, rfl, P3.rdr, 1, by omega, xp_must P3.1 (fun _ => Nat.le_refl _) (fun hb => by cases hb) (fun _ q' y' hF => hx _ q' y' e0 hF)⟩
    · rw [if_neg h16] at e0
      rw [decide_eq_true h16]
      refine ⟨by omega, fun y11 u12 => u12 = cN bs (pP s) + kc + cN bs (pP (nxt bs s)) ∧ PX G y0 n0 y11 R e X tp op ln (some cq) bs (nxt bs (nxt bs s)) (ndL s + 1) D K g gA ∧ Ns y y11 ∧ KF y D y11 D ∧ stW G y11 q (pW (nxt bs s)) ∧ (pK (nxt bs (nxt bs s)) = 3 → (1 ≤ pNm (nxt bs (nxt bs s)) ∧ pNm (nxt bs (nxt bs s)) ≤ 999) → (((eCl (pE s))[clI (pE s) (pW (nxt bs s))]?).map (fun x => x.2)).getD (nI (pNm (nxt bs (nxt bs s)))) = nI (pNm (nxt bs (nxt bs s)))), ?_, R, rfl, P3.rdr, 0, by omega, xp_must P3.1 (fun hb => by cases hb) (fun _ => ⟨P3.rdr, cN bs (pP (nxt bs s)), by omega, px_nxt P3 (Nat.le_refl _) (fun y48 P48 Q48 _ => ?_)⟩) (fun hb => by cases hb)⟩
      · rintro y11 u12 ⟨rfl, P11, N11, F11, S11, hwt⟩
        refine ⟨by omega, fun y15 u19 x16 r17 r18 => ∃ a, r17 = some a ∧ r18 = some a ∧ x16 = nI (clI (pE s) (pW (nxt bs s))) ∧ pLeaf bs tc s = .ok ((eNd (pE s)).length, sEd (nxt bs (nxt bs (nxt bs s))) (uCl (uNd (pE s) (eNd (pE s) ++ [(nI (clI (pE s) (pW (nxt bs s))), 0, 0, 0, tc)])) (if clI (pE s) (pW (nxt bs s)) = (eCl (pE s)).length then eCl (pE s) ++ [(pW (nxt bs s), nI (pNm (nxt bs (nxt bs s))))] else eCl (pE s)))) ∧ PX G y0 n0 y15 R e X tp op ln (some cq) bs (sEd (nxt bs (nxt bs (nxt bs s))) (uCl (pE s) (if clI (pE s) (pW (nxt bs s)) = (eCl (pE s)).length then eCl (pE s) ++ [(pW (nxt bs s), nI (pNm (nxt bs (nxt bs s))))] else eCl (pE s)))) (ndL s + 1) D K g gA ∧ y15.1 a = some (ob 11 [.int 0, .int 0]) ∧ y.1 a = none ∧ n0 ≤ a ∧ (∀ d n, ¬ gNR g d a n) ∧ D a = none ∧ Ns y y15 ∧ KF y D y15 D ∧ u19 + 4 ≤ B, ?_, P11.rdr, ?_⟩
        · rintro y15 u19 x16 r17 r18 ⟨a, rfl, rfl, rfl, ev, P15, a15, ha0, han, hno, hDa, N15, F15, hu⟩
          refine ⟨by omega, a, rfl, _, a15, by show 0 < 2; omega, fun y21 hy21 => ?_⟩
          have a21 : y21.1 a = some (ob 11 [.int (nI (clI (pE s) (pW (nxt bs s)))), .int 0]) := by rw [hy21, hput_at]; rfl
          have f21 : ∀ b, b ≠ a → y21.1 b = y15.1 b := fun b hb => by rw [hy21, hput_ne hb]
          have z21 : y21.2 = y15.2 := by rw [hy21]; rfl
          have P21 := P15.pl a15 han hno f21 a21 z21
          have N21 := N15.pu ha0 f21 (by omega)
          have F21 := F15.pu ha0 hDa f21
          have C21 : CX G y0 n0 R e X tp ln bs tc cq (ndL s + 1) op y21 (sEd (nxt bs (nxt bs (nxt bs s))) (uCl (pE s) (if clI (pE s) (pW (nxt bs s)) = (eCl (pE s)).length then eCl (pE s) ++ [(pW (nxt bs s), nI (pNm (nxt bs (nxt bs s))))] else eCl (pE s)))) D K g gA := ⟨P21, hC.2.1, hC.2.2.1, hC.2.2.2.1, hC.2.2.2.2⟩
          obtain ⟨tok, nm, l, la, ll, tr, xs, dR, d1, d2, d3, d4, d5, d6⟩ := C21.chap
          obtain ⟨fsL, hfL⟩ := P21.2.1.1.cell d6
          have hlen : ((lfs (pE s) tc).map (fun n => some (gNa g n))).length ≤ 39 := by
            rw [List.length_map]
            have : (lfs (pE s) tc).length ≤ (List.range (eNd (pE s)).length).length := List.length_filter_le _ _
            rw [List.length_range] at this
            have h2 : (eNd (pE s)).length < 40 := h40
            omega
          have hg : gco ((lfs (pE s) tc).map (fun n => some (gNa g n))).length ≤ 4 := by
            unfold gco
            split
            · omega
            · split <;> omega
          refine ⟨_, ⟨_, dR, rfl⟩, cq, rfl, _, ⟨_, d1, rfl⟩, ll, rfl, ⟨fsL, Or.inl hfL⟩, 4, by omega, P21.2.1.add P21.1.2.2.2.2 d6 (by show ((lfs (pE s) tc).map (fun n => some (gNa g n))).length < 900; omega) (fun z hz => by cases hz; exact ⟨11, _, by decide, Or.inl a21⟩) hg (fun y26 v26 k26 cl26 n26 kf26 b26 => ?_)⟩
          have pe := PE.leaf (a := a) (k := clI (pE s) (pW (nxt bs s))) P21.2.2 d3 d6 a21 (by omega) hno k26 kf26 (fun j hj hj2 hjt => by
            subst hjt
            have g2 := hC.2.1
            rw [List.getElem?_eq_getElem hj2] at g2
            rw [Option.some.inj g2]
            exact ⟨_, _, _, _, d1⟩)
          have hnn : ndL s + 1 = ndL (sEd (nxt bs (nxt bs (nxt bs s))) (uCl (uNd (pE s) (eNd (pE s) ++ [(nI (clI (pE s) (pW (nxt bs s))), 0, 0, 0, tc)])) (if clI (pE s) (pW (nxt bs s)) = (eCl (pE s)).length then eCl (pE s) ++ [(pW (nxt bs s), nI (pNm (nxt bs (nxt bs s))))] else eCl (pE s)))) := by
            show (eNd (pE s)).length + 1 = (eNd (pE s) ++ [_]).length
            rw [List.length_append]; rfl
          have tmp : ∀ l' xs', D l' = some xs' → 100 ≤ K l' → va_up D ll (some ((lfs (pE s) tc).map (fun n => some (gNa g n)) ++ [some a])) l' = some xs' ∧ K l' = K l' := fun l' xs' hl' hk' => by
            have h6 := hC.1.2.2.2.2.2.2.2.2.1
            have h3 := hC.2.2.1
            rw [up_ne (fun ee => by rw [ee, d3] at hk'; omega)]
            exact ⟨hl', rfl⟩
          refine hp y26 a _ _ (gNd g (nNa g (eNd (pE s)).length a) (nNR g 0 a (eNd (pE s)).length)) ev ⟨⟨⟨P21.1.kp rfl v26.1.1 k26 b26 n26, v26, ?_⟩, hC.2.1, hC.2.2.1, hC.2.2.2.1, hC.2.2.2.2⟩, ?_, ?_, he1, he2, he3⟩ ⟨N21.tr (k26.bs cl26 n26).ns, F21.tr kf26, tmp, fun _ _ _ z => z, fun _ _ _ z => Or.inl z, fun d r n z => ?_, fun n hn => ?_, rfl, rfl, fun _ _ => rfl⟩ (fun d => Or.inr ⟨Nat.zero_le _, rfl, rfl⟩) (fun n hn1 hn2 => ?_)
          · rw [hnn] at pe
            exact pe
          · show ∀ c ∈ (if clI (pE s) (pW (nxt bs s)) = (eCl (pE s)).length then eCl (pE s) ++ [(pW (nxt bs s), nI (pNm (nxt bs (nxt bs s))))] else eCl (pE s)), isNm c.1
            split
            · intro c hc
              rcases List.mem_append.mp hc with hc | hc
              · exact hcl c hc
              · rw [List.mem_singleton.mp hc]; exact hnm
            · exact hcl
          · refine ⟨by rw [← hnn]; omega, fun d r n z => ?_⟩
            rcases z with z | ⟨-, rfl, -⟩
            · exact hRn d r n z
            · exact han
          · rcases z with z | ⟨-, -, rfl⟩
            · exact Or.inl z
            · exact Or.inr (Nat.le_refl _)
          · show (if n = (eNd (pE s)).length then a else gNa g n) = gNa g n
            have hn' : n < (eNd (pE s)).length := hn
            rw [if_neg (by omega)]
          · have hn3 : n = (eNd (pE s)).length := by
              rw [← hnn] at hn2
              have h2 : (eNd (pE s)).length ≤ n := hn1
              have h3 : n < (eNd (pE s)).length + 1 := hn2
              omega
            subst hn3
            refine ⟨0, Or.inr ⟨Nat.le_refl _, ?_, rfl⟩⟩
            show (if (eNd (pE s)).length = (eNd (pE s)).length then a else _) = a
            rw [if_pos rfl]
        · have t2 := ht.nxt.nxt
          cases hn : pNum bs 1 999 (nxt bs (nxt bs s)) with
          | error f =>
            have eE : pLeaf bs tc s = .error f := by
              rw [e0]
              unfold pNum at hn
              split at hn
              · next z => rw [if_pos z]; exact er_c hn
              · next z =>
                split at hn
                · next z2 => rw [if_neg z, if_pos z2]; exact er_c hn
                · cases hn
            have hB := hck.2.2 (hBe f eE)
            refine ⟨61, by omega, px_number P11 (by decide) (fun v hv => ?_) (fun _ _ => Nat.le_refl _) (fun y' hv => ?_) (fun f' q' y' hf hF => ?_)⟩
            · rw [hn] at hv; cases hv
            · rw [hn] at hv; cases hv
            · rw [hn] at hf; cases hf; exact hx f q' y' eE hF
          | ok v =>
            have hk3 : pK (nxt bs (nxt bs s)) = 3 ∧ (1 ≤ pNm (nxt bs (nxt bs s)) ∧ pNm (nxt bs (nxt bs s)) ≤ 999) := by
              unfold pNum at hn
              split at hn
              · cases hn
              · next z =>
                split at hn
                · cases hn
                · next z2 => exact ⟨Decidable.not_not.mp z, Decidable.not_not.mp z2⟩
            have hw2 := hwt hk3.1 hk3.2
            rw [if_neg (fun z => z hk3.1), if_neg (fun z => z hk3.2), if_neg (fun z => z hw2)] at e0
            refine ⟨cN bs (pP (nxt bs (nxt bs s))), by omega, px_number P11 (by decide) (fun _ _ => Nat.le_refl _) (fun f hf => ?_) (fun y30 e30 P30 Q30 => ⟨by omega, ?_⟩) (fun f' q' y' hf hF => ?_)⟩
            · rw [hn] at hf; cases hf
            · rintro a35 rfl y34 hy34
              have P34 : PX G y0 n0 y34 R e X tp op ln (some cq) bs (nxt bs (nxt bs (nxt bs s))) (ndL s + 1) D K g gA := by rw [hy34]; exact P30.nw
              have q34 : y34.1 y30.2 = some (ob 11 [.int 0, .int 0]) := by rw [hy34, hnew_at]
              have Q34 : Qs y11 y34 := Q30.tr (by rw [hy34]; exact Qs.new P30.1.wf)
              have N34 := N11.tr Q34.bs.ns
              have F34 := F11.tr (Q34.kf P11.2.1.1)
              have ha0 : y.1 y30.2 = none := hC.1.1.wf.none (Nat.le_trans N11.2.2.2.2.2 Q30.2)
              have n30 : n0 ≤ y30.2 := P30.1.2.2.2.2
              have hDa : D y30.2 = none := P30.2.1.1.fresh
              have hno : ∀ d n, ¬ gNR g d y30.2 n := fun d n hr => by
                rcases (P30.2.2.2.1.2.2.1 d _ n hr).1 with ⟨x, mt, -, -, z⟩ | ⟨d', x, cr, arr, r1, r2, g9, -, -, -, z, -⟩
                · have := P30.1.wf.lt z; omega
                · have := P30.1.wf.lt z; omega
              have S34 := S11.pk Q34.pks
              refine ⟨fun hneg => ?_, fun hpos => ?_⟩
              · have hkL2 : clI (pE s) (pW (nxt bs s)) = (eCl (pE s)).length := by
                  rcases Nat.lt_or_ge (clI (pE s) (pW (nxt bs s))) (eCl (pE s)).length with z | z
                  · rw [if_pos z] at hneg
                    exact absurd hneg (nI_nlt (a := clI (pE s) (pW (nxt bs s))) (b := 0) (Nat.zero_le _) (by omega))
                  · omega
                obtain ⟨tk34, cR34⟩ := P34.1.cell
                have hB6 := hck.2.1 hkL2 h16
                refine ⟨_, ⟨_, cR34, rfl⟩, e, rfl, ⟨_, Or.inl P34.2.2.1.1⟩, 1, by omega, px_adds P34 (show (eCl (pE s)).length < 16 by omega) S34 hnm (show pNm (nxt bs (nxt bs s)) < 1000 by omega) (Nat.le_refl _) ⟨he1, he2, he3⟩ (fun y39 P39 kw k7 sw kb cl n39 kf => ?_)⟩
                refine ⟨y30.2, rfl, rfl, ?_, e0, ?_, kb _ _ _ (by decide) (by decide) q34, ha0, n30, hno, hDa, N34.tr ⟨kw, k7, sw, kb, cl, n39⟩, F34.tr kf, by omega⟩
                · rw [hkL2]; rfl
                · rw [if_pos hkL2]; exact P39
              · have hkL2 : clI (pE s) (pW (nxt bs s)) < (eCl (pE s)).length := by
                  rcases Nat.lt_or_ge (clI (pE s) (pW (nxt bs s))) (eCl (pE s)).length with z | z
                  · exact z
                  · rw [if_neg (by omega)] at hpos
                    exact absurd (by decide) hpos
                refine ⟨y30.2, rfl, rfl, if_pos hkL2, e0, ?_, q34, ha0, n30, hno, hDa, N34, F34, by omega⟩
                rw [if_neg (by omega)]
                exact P34
            · rw [hn] at hf; cases hf
      · have N48 := N3.tr Q48.bs.ns
        have F48 := F3.tr (Q48.kf P3.2.1.1)
        have S48 := S3.pk Q48.pks
        refine ⟨fun hneg => ⟨by omega, P48, N48, F48, S48, fun _ _ => ?_⟩, fun hpos => ?_⟩
        · have hkL2 : ¬ clI (pE s) (pW (nxt bs s)) < (eCl (pE s)).length := fun z => by
            rw [if_pos z] at hneg
            exact absurd hneg (nI_nlt (a := clI (pE s) (pW (nxt bs s))) (b := 0) (Nat.zero_le _) (by omega))
          rw [List.getElem?_eq_none (by omega)]; rfl
        · have hkL2 : clI (pE s) (pW (nxt bs s)) < (eCl (pE s)).length := by
            rcases Nat.lt_or_ge (clI (pE s) (pW (nxt bs s))) (eCl (pE s)).length with z | z
            · exact z
            · rw [if_neg (by omega)] at hpos
              exact absurd (by decide) hpos
          rw [if_pos hkL2]
          obtain ⟨tok, dR, -, tk⟩ := P48.1.tok
          refine ⟨tok, ⟨_, dR, rfl⟩, _, (tk_in5 tk).2, fun hb => ⟨by omega, P48, N48, F48, S48, fun z => absurd z (of_decide_eq_false hb)⟩, fun hb => ?_⟩
          have hk3 : pK (nxt bs (nxt bs s)) = 3 := of_decide_eq_true hb
          have hN : pNm (nxt bs (nxt bs s)) < 1500 := ht.nxt.nxt.b.2.2.2.2.2.2.1
          rcases tk with ⟨z0, z⟩ | ⟨z0, z⟩ | ⟨z0, z⟩ | ⟨z0, z1⟩ | ⟨z0, z⟩
          · exfalso; have : (nxt bs (nxt bs s)).1.2.1.1 = 3 := hk3; omega
          · exfalso; have : (nxt bs (nxt bs s)).1.2.1.1 = 3 := hk3; omega
          · exfalso; have : (nxt bs (nxt bs s)).1.2.1.1 = 3 := hk3; omega
          · have hof := z1.of
            obtain ⟨qb, rfl, rb⟩ := z1
            refine ⟨hof, qb, rfl, ⟨_, rb⟩, sp_intValue rb (sp_within ?_)⟩
            have eW : wthn (nI (pNm (nxt bs (nxt bs s)))) (nI 1) (nI 999) = decide (1 ≤ pNm (nxt bs (nxt bs s)) ∧ pNm (nxt bs (nxt bs s)) ≤ 999) := by
              by_cases hin : 1 ≤ pNm (nxt bs (nxt bs s)) ∧ pNm (nxt bs (nxt bs s)) ≤ 999
              · rw [decide_eq_true hin]
                exact wthn_iff.mpr ⟨by rw [nI_toInt (by omega), nI_toInt (by omega)]; omega, by rw [nI_toInt (by omega), nI_toInt (by omega)]; omega⟩
              · rw [decide_eq_false hin, Bool.eq_false_iff]
                intro w
                have := wthn_iff.mp w
                rw [nI_toInt (by omega), nI_toInt (by omega), nI_toInt (by omega)] at this
                omega
            refine ⟨fun hb2 => ⟨by omega, P48, N48, F48, S48, fun _ z => ?_⟩, fun hb2 => ?_⟩
            · exfalso
              have hb3 : decide (1 ≤ pNm (nxt bs (nxt bs s)) ∧ pNm (nxt bs (nxt bs s)) ≤ 999) = false := eW.symm.trans hb2
              exact of_decide_eq_false hb3 z
            · have hin : 1 ≤ pNm (nxt bs (nxt bs s)) ∧ pNm (nxt bs (nxt bs s)) ≤ 999 := of_decide_eq_true (eW.symm.trans hb2)
              obtain ⟨g1, -, -, -, ⟨gw, g2, g3⟩, -⟩ := id P48.2.2.1
              have hgk : gw (clI (pE s) (pW (nxt bs s))) = (eCl (pE s))[clI (pE s) (pW (nxt bs s))].2 := g3 _ hkL2
              have hcl2 : (nI (clI (pE s) (pW (nxt bs s)))).toNatClampNeg = clI (pE s) (pW (nxt bs s)) := nI_clamp (by omega)
              refine ⟨fun y64 u67 b65 r66 => y64 = y48 ∧ u67 = cN bs (pP s) + kc + cN bs (pP (nxt bs s)) ∧ r66 = some R ∧ b65 = decide (nI (pNm (nxt bs (nxt bs s))) = (eCl (pE s))[clI (pE s) (pW (nxt bs s))].2), ?_, ⟨_, rb⟩, sp_intValue rb ⟨_, ⟨_, dR, rfl⟩, e, rfl, _, ⟨_, g1, rfl⟩, _, rfl, 16, gw, Or.inl g2, vp_inN (by omega) (by omega), ?_⟩⟩
              · rintro y64 u67 b65 r66 ⟨rfl, rfl, rfl, rfl⟩
                by_cases heq : nI (pNm (nxt bs (nxt bs s))) = (eCl (pE s))[clI (pE s) (pW (nxt bs s))].2
                · rw [decide_eq_true heq]
                  refine ⟨by omega, R, rfl, P48.rdr, 0, by omega, xp_must P48.1 (fun hb => by cases hb) (fun _ => ⟨by omega, P48, N48, F48, S48, fun _ _ => ?_⟩) (fun hb => by cases hb)⟩
                  rw [List.getElem?_eq_getElem hkL2]
                  exact heq.symm
                · rw [decide_eq_false heq]
                  have eE : pLeaf bs tc s = er (nxt bs (nxt bs s)) 3 := by
                    rw [e0, if_neg (fun z => z hk3), if_neg (fun z => z hin), if_pos]
                    rw [List.getElem?_eq_getElem hkL2]
                    exact fun z => heq z.symm
                  have hB := hck.2.2 (hBe _ eE)
                  exact ⟨by omega, R, rfl, P48.rdr, 1, by omega, xp_must P48.1 (fun _ => Nat.le_refl _) (fun hb => by cases hb) (fun _ q' y' hF => hx _ q' y' eE hF)⟩
              · rw [hcl2, hgk]
                exact ⟨fun hne => ⟨rfl, by omega, rfl, (decide_eq_false hne).symm⟩, fun heq => ⟨rfl, by omega, rfl, (decide_eq_true heq).symm⟩⟩
          · exfalso; have : (nxt bs (nxt bs s)).1.2.1.1 = 3 := hk3; omega
  · rintro y86 u90 r87 x88 r89 ⟨rfl, rfl, z1, z2, z3, z4⟩
    exact ⟨by omega, rfl, rfl, z1, z2, (decide_eq_true z3).symm, z4⟩
  · rw [if_neg (nz hb)]; exact Nat.le_refl _
  · have hk1 : pK (nxt bs s) = 2 := (of_decide_eq_true hok).1
    have hnm : isNm (pW (nxt bs s)) := nm_of ht.nxt.b hk1
    obtain ⟨tk99, cR99⟩ := P99.1.cell
    rw [if_pos hok]
    refine ⟨_, ⟨_, cR99, rfl⟩, e, rfl, ⟨_, Or.inl P99.2.2.1.1⟩, kc, by omega, px_classOf P99 hcl S99 hnm (Nat.le_of_eq hkc1.symm) (fun y105 P105 Q105 => ?_)⟩
    have Q5 := (Q96.tr Q99).tr Q105
    have N105 := N94.tr Q5.bs.ns
    have F105 := F94.tr (Q5.kf P94.2.1.1)
    have S105 := S99.pk Q105.pks
    refine ⟨fun hge => ⟨by omega, rfl, hok, rfl, ?_, P105, N105, F105, q, rfl, S105⟩, fun hlt => ?_⟩
    · intro z16
      have hge' : 0 ≤ (if clI (pE s) (pW (nxt bs s)) < (eCl (pE s)).length then nI (clI (pE s) (pW (nxt bs s))) else -1) := hge
      rw [if_neg (by omega)] at hge'
      exact absurd hge' (by decide)
    · have hkL2 : ¬ clI (pE s) (pW (nxt bs s)) < (eCl (pE s)).length := fun z => by
        have hlt' : ¬ 0 ≤ (if clI (pE s) (pW (nxt bs s)) < (eCl (pE s)).length then nI (clI (pE s) (pW (nxt bs s))) else -1) := hlt
        rw [if_pos z] at hlt'
        exact hlt' (nI_le (a := 0) (Nat.zero_le _) (by omega))
      obtain ⟨tk5, cR5⟩ := P105.1.cell
      refine ⟨_, ⟨_, cR5, rfl⟩, e, rfl, _, ⟨_, P105.2.2.1.1, rfl⟩, fun hge => ⟨by omega, rfl, hok, rfl, ?_, P105, N105, F105, q, rfl, S105⟩, fun hlt2 => ⟨by omega, rfl, hok, rfl, ?_, P105, N105, F105, q, rfl, S105⟩⟩
      · have : 16 ≤ (eCl (pE s)).length := (nI_leI (a := 16) (b := (eCl (pE s)).length) (by omega) (by omega)).mp hge
        exact (decide_eq_false (fun z => z (by omega))).symm
      · intro z16
        exact hlt2 (nI_le (a := 16) (b := (eCl (pE s)).length) (by omega) (by omega))
  · exact hx _ q y' (by rw [e0, if_pos hb]; rfl) hF
