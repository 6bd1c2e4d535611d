/-! The component's reader: nodes by the levels left -/
set_option maxRecDepth 100000
def pParN (bs : List Nat) (rc : Option ((PS → Except Nat (Nat × PS)) × (PS → Except Nat (Nat × PS)))) (s : PS) : Except Nat (Nat × PS) := match rc with
  | none => er s 4
  | some r => pClose bs (r.2 (nxt bs s))
theorem pNode_par {bs : List Nat} {tc : Nat} {rc : Option ((PS → Except Nat (Nat × PS)) × (PS → Except Nat (Nat × PS)))} {s : PS} (h : isS s 40 = true) : pNodeB bs tc rc s = pParN bs rc s := by
  unfold pNodeB pParN
  rw [if_pos h]
  cases rc <;> rfl
theorem pNode_leaf {bs : List Nat} {tc : Nat} {rc : Option ((PS → Except Nat (Nat × PS)) × (PS → Except Nat (Nat × PS)))} {s : PS} (h : isW s 4 = true) : pNodeB bs tc rc s = pLeaf bs tc s := by
  unfold pNodeB
  rw [if_neg (nz (isW_S h)), if_pos h]
theorem pNode_er {bs : List Nat} {tc : Nat} {rc : Option ((PS → Except Nat (Nat × PS)) × (PS → Except Nat (Nat × PS)))} {s : PS} (h40 : isS s 40 = false) (h4 : isW s 4 = false) (h9 : isW s 9 = false) : pNodeB bs tc rc s = er s 1 := by
  unfold pNodeB
  rw [if_neg (nz h40), if_neg (nz h4), if_pos h9]
theorem pNode_40 {bs : List Nat} {tc : Nat} {rc : Option ((PS → Except Nat (Nat × PS)) × (PS → Except Nat (Nat × PS)))} {s : PS} (h : isW s 4 = true ∨ isW s 9 = true) (hn : ndL s = 40) : pNodeB bs tc rc s = er s 4 := by
  by_cases h4 : isW s 4 = true
  · rw [pNode_leaf h4]
    unfold pLeaf
    rw [if_pos hn]
  · have h9 : isW s 9 = true := by
      rcases h with z | z
      · exact absurd z h4
      · exact z
    unfold pNodeB
    rw [if_neg (nz (isW_S h9)), if_neg h4, if_neg (nz' h9), if_pos hn]
theorem pNode_if {bs : List Nat} {tc : Nat} {r : (PS → Except Nat (Nat × PS)) × (PS → Except Nat (Nat × PS))} {s : PS} (h4 : isW s 4 = false) (h9 : isW s 9 = true) (hn : ¬ ndL s = 40) : pNodeB bs tc (some r) s = pIf bs tc r.1 r.2 s := by
  unfold pNodeB
  rw [if_neg (nz (isW_S h9)), if_neg (nz h4), if_neg (nz' h9), if_neg hn]
  rfl
theorem pNode_if0 {bs : List Nat} {tc : Nat} {s : PS} (h4 : isW s 4 = false) (h9 : isW s 9 = true) (hn : ¬ ndL s = 40) : pNodeB bs tc none s = er s 4 := by
  unfold pNodeB
  rw [if_neg (nz (isW_S h9)), if_neg (nz h4), if_neg (nz' h9), if_neg hn]
theorem pLeaf_mu {bs : List Nat} {tc : Nat} {s : PS} {v : Nat × PS} (ht : isTok bs s.1) (h : pLeaf bs tc s = .ok v) : isTok bs v.2.1 ∧ mu bs s ≤ mu bs v.2 := by
  have c0 := mu_nxt ht
  have c1 := mu_nxt ht.nxt
  have c2 := mu_nxt ht.nxt.nxt
  unfold pLeaf at h
  split at h
  · cases h
  · split at h
    · cases h
    · split at h
      · cases h
      · split at h
        · cases h
        · split at h
          · cases h
          · split at h
            · cases h
            · cases h
              refine ⟨ht.nxt.nxt.nxt, ?_⟩
              show mu bs s ≤ mu bs (nxt bs (nxt bs (nxt bs s)))
              omega
theorem pNodeB_mu {bs : List Nat} {tc d : Nat} {rc : Option ((PS → Except Nat (Nat × PS)) × (PS → Except Nat (Nat × PS)))} (hr : ∀ r, rc = some r → r.1 = pCondB bs (pO bs d) ∧ ∀ s v, isTok bs s.1 → r.2 s = .ok v → isTok bs v.2.1 ∧ mu bs s ≤ mu bs v.2) : ∀ s v, isTok bs s.1 → pNodeB bs tc rc s = .ok v → isTok bs v.2.1 ∧ mu bs s ≤ mu bs v.2 := by
  intro s v ht h
  have c0 := mu_nxt ht
  by_cases h40 : isS s 40 = true
  · rw [pNode_par h40] at h
    cases rc with
    | none => cases h
    | some r =>
      obtain ⟨q, q1, q2⟩ := bnd_ok h
      obtain ⟨a1, a2⟩ := (hr r rfl).2 _ _ ht.nxt q1
      obtain ⟨s', s1, s2⟩ := bnd_ok q2
      obtain ⟨rfl, -⟩ := mS_ok s1
      cases s2
      have a3 := mu_nxt a1
      exact ⟨a1.nxt, by show mu bs s ≤ mu bs (nxt bs q.2); omega⟩
  · by_cases h4 : isW s 4 = true
    · rw [pNode_leaf h4] at h
      exact pLeaf_mu ht h
    · by_cases h9 : isW s 9 = true
      · by_cases hn : ndL s = 40
        · rw [pNode_40 (Or.inr h9) hn] at h; cases h
        · cases rc with
          | none => rw [pNode_if0 (Bool.eq_false_iff.mpr h4) h9 hn] at h; cases h
          | some r =>
            rw [pNode_if (Bool.eq_false_iff.mpr h4) h9 hn] at h
            obtain ⟨e1, hr2⟩ := hr r rfl
            obtain ⟨c, t, u, z1, z2, z3, z4, z5, rfl⟩ := pIf_dec h
            rw [e1] at z1
            have tt : isTok bs (nxt bs (sEd s (uNd (pE s) (eNd (pE s) ++ [(-1, 0, 0, 0, tc)])))).1 := ht.nxt
            have k0 := pCondB_mu (pO_mu d) _ _ tt z1
            have k1 : mu bs (nxt bs (sEd s (uNd (pE s) (eNd (pE s) ++ [(-1, 0, 0, 0, tc)])))) = mu bs (nxt bs s) := mu_eq rfl
            have k2 := mu_nxt k0.1
            have k3 := hr2 _ _ k0.1.nxt z3
            have k4 := mu_nxt k3.1
            have k5 := hr2 _ _ k3.1.nxt z5
            refine ⟨k5.1, ?_⟩
            show mu bs s ≤ mu bs u.2
            omega
      · rw [pNode_er (Bool.eq_false_iff.mpr h40) (Bool.eq_false_iff.mpr h4) (Bool.eq_false_iff.mpr h9)] at h
        cases h
theorem RnN (bs : List Nat) (tc : Nat) : ∀ d, RnI bs (pN bs tc d) := by
  intro d
  refine ⟨?_, fun s v h1 h2 h3 => pN_ng d s v h1 h2 h3⟩
  induction d with
  | zero => exact pNodeB_mu (d := 0) (fun r hr => (by cases hr))
  | succ d ih => exact pNodeB_mu (d := d) (fun r hr => (by cases hr; exact ⟨rfl, ih⟩))
theorem px_node {G : GP} {y0 : HS} {n0 : Nat} {R e X tp ln : Nat} {bs : List Nat} {tc cq op dd : Nat} {rcs : Option ((PS → Except Nat (Nat × PS)) × (PS → Except Nat (Nat × PS)))} {rc : Nat → (Option Nat → HS → Prop) → (Nat → Nat → HS → Prop) → HS → Nat → Prop} (hG : GK G) (hsub : (op = 9 ∧ rcs = none) ∨ (∃ d r2, op + 1 = 9 - d ∧ d ≤ 8 ∧ rcs = some (pCondB bs (pO bs d), r2) ∧ RnI bs r2 ∧ NSp G y0 n0 R e X tp ln bs tc cq (op + 1) dd r2 (fun B post xp y => rc B post xp y R))) : NSp G y0 n0 R e X tp ln bs tc cq op (dd + 1) (pNodeB bs tc rcs) (fun B post xp y => wb_X6_node G rc B post xp y R) := by
  intro B post xp y s D K g gA h hcn hBo hBe hp hx
  have hC := h.1
  have ht := hC.1.1.2.1
  have c0 := cN_mu5 ht
  have m0 := mu_le ht
  refine ⟨hC.1.rdr, xl_isSign hC.1.1.1 (by decide) ⟨fun h40 => ?_, fun h40 => ?_⟩⟩
  · obtain ⟨tk, cR⟩ := hC.1.1.cell
    have ce := hC.1.2.2.1.1
    refine ⟨fun y7 u11 b8 b9 r10 => y7 = y ∧ u11 = 0 ∧ b8 = isW s 4 ∧ b9 = decide (isW s 4 = true ∨ isW s 9 = true) ∧ r10 = some R, ?_, fun y7 u11 b8 r10 => y7 = y ∧ u11 = 0 ∧ b8 = isW s 4 ∧ (isW s 4 = true ∨ isW s 9 = true) ∧ r10 = some R, ?_, hC.1.rdr, xl_isWord hG hC.1.1.1 (by decide) ⟨fun hb => ⟨rfl, rfl, rfl, Or.inl hb, rfl⟩, fun hb => ⟨hC.1.rdr, xl_isWord hG hC.1.1.1 (by decide) ⟨fun hb2 => ⟨rfl, rfl, rfl, ?_, rfl⟩, fun hb2 => ⟨rfl, rfl, rfl, Or.inr hb2, rfl⟩⟩⟩⟩⟩
    · rintro y7 u11 b8 b9 r10 ⟨rfl, rfl, rfl, rfl, rfl⟩
      by_cases h49 : isW s 4 = true ∨ isW s 9 = true
      · rw [decide_eq_true h49]
        refine ⟨Nat.zero_le _, fun y14 u17 b15 r16 => y14 = y7 ∧ u17 = 0 ∧ b15 = decide (ndL s < 40) ∧ r16 = some R, ?_, R, rfl, hC.1.rdr, 0, by omega, xp_must hC.1.1 (fun hb => by cases hb) (fun _ => ⟨_, ⟨_, cR, rfl⟩, e, rfl, _, ⟨_, ce, rfl⟩, fun hge => ⟨rfl, rfl, ?_, rfl⟩, fun hlt => ⟨rfl, rfl, ?_, rfl⟩⟩) (fun hb => by cases hb)⟩
        · rintro y14 u17 b15 r16 ⟨rfl, rfl, rfl, rfl⟩
          by_cases hnd : ndL s < 40
          · rw [decide_eq_true hnd]
            refine ⟨Nat.zero_le _, R, rfl, hC.1.rdr, 0, by omega, xp_must hC.1.1 (fun hb => by cases hb) (fun _ => ⟨fun hb8 => ⟨hC.1.rdr, ?_⟩, fun hb8 => ⟨hC.1.rdr, B, by omega, ?_⟩⟩) (fun hb => by cases hb)⟩
            · have h9 : isW s 9 = true := by
                rcases h49 with z | z
                · rw [hb8] at z; cases z
                · exact z
              rcases hsub with ⟨hop, rfl⟩ | ⟨d, r2, hop, hd, rfl, hr2, hs2⟩
              · have eE := pNode_if0 (bs := bs) (tc := tc) hb8 h9 (by omega)
                have hB := hBe _ eE
                exact ⟨1, by omega, px_opens hC.1 (by omega) (fun _ => Nat.le_refl _) (fun z => absurd z (by omega)) (fun _ q y' hF => hx _ q y' eE hF)⟩
              · have e1 := pNode_if (bs := bs) (tc := tc) (r := (pCondB bs (pO bs d), r2)) hb8 h9 (show ¬ ndL s = 40 by omega)
                exact px_if (u0 := 0) hG h hcn h9 hnd hop hd hr2 hs2 rfl (fun v hv => hBo v (e1.trans hv)) (fun f hf => hBe f (e1.trans hf)) (fun y' q v D' K' g' gA' hv N' X' hN' cv => hp y' q v D' K' g' gA' (e1.trans hv) N' X' hN' cv) (fun f q y' hf hF => hx f q y' (e1.trans hf) hF)
            · have e1 := pNode_leaf (bs := bs) (tc := tc) (rc := rcs) hb8
              exact px_leaf hG h hb8 hnd (fun v hv => hBo v (e1.trans hv)) (fun f hf => hBe f (e1.trans hf)) (fun y' q v D' g' hv N' X' hN' cv => hp y' q v D' K g' gA (e1.trans hv) N' X' (fun d _ => hN' d) cv) (fun f q y' hf hF => hx f q y' (e1.trans hf) hF)
          · rw [decide_eq_false hnd]
            have h40' := h.2.2.1.1
            have eE := pNode_40 (bs := bs) (tc := tc) (rc := rcs) h49 (show ndL s = 40 by omega)
            have hB := hBe _ eE
            exact ⟨Nat.zero_le _, R, rfl, hC.1.rdr, 1, by omega, xp_must hC.1.1 (fun _ => Nat.le_refl _) (fun hb => by cases hb) (fun _ q' y' hF => hx _ q' y' eE hF)⟩
        · have h40' := h.2.2.1.1
          have : 40 ≤ ndL s := (nI_leI (a := 40) (b := ndL s) (by omega) (by omega)).mp hge
          exact (decide_eq_false (by omega)).symm
        · have h40' := h.2.2.1.1
          have : ¬ 40 ≤ ndL s := fun z => hlt (nI_le (a := 40) (b := ndL s) z (by omega))
          exact (decide_eq_true (by omega)).symm
      · rw [decide_eq_false h49]
        have eE := pNode_er (bs := bs) (tc := tc) (rc := rcs) h40 (Bool.eq_false_iff.mpr (fun z => h49 (Or.inl z))) (Bool.eq_false_iff.mpr (fun z => h49 (Or.inr z)))
        have hB := hBe _ eE
        exact ⟨Nat.zero_le _, fun _ _ _ _ => False, fun _ _ _ _ z => z.elim, R, rfl, hC.1.rdr, 1, by omega, xp_must hC.1.1 (fun _ => Nat.le_refl _) (fun hb => by cases hb) (fun _ q' y' hF => hx _ q' y' eE hF)⟩
    · rintro y81 u84 b82 r83 ⟨rfl, rfl, rfl, hz, rfl⟩
      exact ⟨Nat.zero_le _, rfl, rfl, rfl, (decide_eq_true hz).symm, rfl⟩
    · refine (decide_eq_false (fun z => ?_)).symm
      rcases z with z | z
      · rw [hb] at z; cases z
      · rw [hb2] at z; cases z
  · have e1 : pNodeB bs tc rcs s = pParN bs rcs s := pNode_par h40
    have hk4 : pK s = 4 := (of_decide_eq_true h40).1
    have h1 : pAt s + 1 ≤ pP s := ht.b.2.2.1 (by show pK s ≠ 0; omega)
    rcases hsub with ⟨hop, rfl⟩ | ⟨d, r2, hop, hd, rfl, ⟨hmu, hng⟩, hs2⟩
    · have eE : pNodeB bs tc none s = er s 4 := e1
      have hB := hBe _ eE
      exact ⟨hC.1.rdr, 1, by omega, px_opens hC.1 (by omega) (fun _ => Nat.le_refl _) (fun z => absurd z (by omega)) (fun _ q y' hF => hx _ q y' eE hF)⟩
    · have e2 : pNodeB bs tc (some (pCondB bs (pO bs d), r2)) s = bnd (r2 (nxt bs s)) (fun q => bnd (pMustS bs 41 q.2) (fun s => .ok (q.1, s))) := e1
      have m1 := mu_le ht.nxt
      have hat : pAt s + 1 ≤ pAt (nxt bs s) := by
        have z1 := (nxt_b ht.b).2
        omega
      have hcn1 : 3 * cnL (nxt bs s) ≤ pAt (nxt bs s) := by
        have : cnL (nxt bs s) = cnL s := rfl
        omega
      have hb : (∃ f, r2 (nxt bs s) = .error f ∧ 5 * bs.length + 90 ≤ mu bs s + B) ∨ (∃ v, r2 (nxt bs s) = .ok v ∧ isTok bs v.2.1 ∧ mu bs (nxt bs s) ≤ mu bs v.2 ∧ ((pMustS bs 41 v.2 = .ok (nxt bs v.2) ∧ mu bs (nxt bs v.2) ≤ mu bs s + B ∧ pAt v.2 + 1 ≤ pP v.2) ∨ 5 * bs.length + 90 ≤ mu bs s + B)) := by
        cases hr : r2 (nxt bs s) with
        | error f => exact Or.inl ⟨f, rfl, hBe f (by rw [e2, hr]; rfl)⟩
        | ok v =>
          obtain ⟨t2, m2⟩ := hmu _ _ ht.nxt hr
          refine Or.inr ⟨v, rfl, t2, m2, ?_⟩
          cases hm : pMustS bs 41 v.2 with
          | error f => exact Or.inr (hBe f (by rw [e2, hr]; show bnd (pMustS bs 41 v.2) _ = _; rw [hm]; rfl))
          | ok s' =>
            obtain ⟨rfl, hs41⟩ := mS_ok hm
            refine Or.inl ⟨rfl, hBo (v.1, nxt bs v.2) (by rw [e2, hr]; show bnd (pMustS bs 41 v.2) _ = _; rw [hm]; rfl), t2.b.2.2.1 ?_⟩
            have := (of_decide_eq_true hs41).1
            show pK v.2 ≠ 0
            omega
      have p0 : cN bs (pP s) ≤ B := by
        rcases hb with ⟨f, -, z⟩ | ⟨v, -, t2, z2, ⟨-, z3, -⟩ | z3⟩
        · omega
        · have := mu_nxt t2; omega
        · omega
      refine ⟨hC.1.rdr, 0, by omega, px_opens hC.1 (by omega) (fun z => absurd z (by omega)) (fun _ y1 P1 Q1 => ⟨P1.rdr, cN bs (pP s), by omega, px_nxt P1 (Nat.le_refl _) (fun y4 P4 Q4 _ => ⟨P4.rdr, ?_⟩)⟩) (fun z => absurd z (by omega))⟩
      have N4 : NX G y0 n0 R e X tp ln bs tc cq (op + 1) y4 (nxt bs s) D K g gA := ⟨hC.q P4 rfl, h.2⟩
      have X4 : NExt tc (ndL s) y D K g gA y4 D K g gA := (CExt.q (Q1.tr Q4) hC.1.2.1.1).n
      rcases hb with ⟨f, hr, hB⟩ | ⟨v, hr, t2, m2, hB⟩
      · refine ⟨B - cN bs (pP s), by omega, hs2 _ _ xp y4 (nxt bs s) D K g gA N4 hcn1 (fun v hv => ?_) (fun _ _ => by omega) (fun y' q v D' K' g' gA' hv => ?_) (fun f9 q9 y9 hf hF => ?_)⟩
        · rw [hr] at hv; cases hv
        · rw [hr] at hv; cases hv
        · rw [hr] at hf; cases hf; exact hx _ q9 y9 (by rw [e2, hr]; rfl) hF
      · have m2l := mu_le t2
        have c2 := cN_mu5 t2
        refine ⟨mu bs v.2 - mu bs (nxt bs s), by rcases hB with ⟨-, z, z1⟩ | z <;> omega, hs2 _ _ xp y4 (nxt bs s) D K g gA N4 hcn1 (fun v' hv => ?_) (fun f hf => ?_) (fun y9 q v' D9 K9 g9 A9 hv N9 X9 hN9 cv9 => ?_) (fun f9 q9 y9 hf hF => ?_)⟩
        · rw [hr] at hv; cases hv; omega
        · rw [hr] at hf; cases hf
        · rw [hr] at hv
          cases hv
          refine ⟨N9.1.1.rdr, cN bs (pP v.2) + 1, ?_, px_sign N9.1.1 (by decide) (Nat.le_refl _) (fun y12 hm P12 Q12 => px_close P12 (fun y16 P16 Q16 => ?_)) (fun f q9 y9 hf hF => hx _ q9 y9 (by rw [e2, hr]; show bnd (pMustS bs 41 v.2) _ = _; rw [hf]; rfl) hF)⟩
          · have c2l : cN bs (pP v.2) ≤ 4 := by
              unfold cN
              split
              · omega
              · split <;> omega
            rcases hB with ⟨-, z, z1⟩ | z <;> omega
          · have X16 : NExt tc (ndL s) y9 D9 K9 g9 A9 y16 D9 K9 g9 A9 := (CExt.q (Q12.tr Q16) N9.1.1.2.1.1).n
            have X9' : NExt tc (ndL s) y4 D K g gA y9 D9 K9 g9 A9 := X9
            exact hp y16 q (v.1, nxt bs v.2) D9 K9 g9 A9 (by rw [e2, hr]; show bnd (pMustS bs 41 v.2) _ = _; rw [hm]; rfl) ⟨N9.1.q P16 rfl, N9.2⟩ ((X4.tr (Nat.le_refl _) X9').tr (Nat.le_refl _) X16) (fun d hd => hN9 d (by omega)) cv9
        · rw [hr] at hf; cases hf
/-- nodes, by the levels left -/
theorem px_N {G : GP} {y0 : HS} {n0 : Nat} {R e X tp ln : Nat} {bs : List Nat} {tc cq : Nat} (hG : GK G) : ∀ (d : Nat), d ≤ 9 → ∀ m, d + 1 ≤ m → NSp G y0 n0 R e X tp ln bs tc cq (9 - d) (d + 1) (pN bs tc d) (fun B post xp y => wp_xnode G m B post xp y R) := by
  intro d
  induction d with
  | zero =>
    intro _ m hm
    obtain ⟨k, rfl⟩ : ∃ k, m = k + 1 := ⟨m - 1, by omega⟩
    exact px_node (rcs := none) (rc := wp_xnode G k) (dd := 0) hG (Or.inl ⟨rfl, rfl⟩)
  | succ d ih =>
    intro hd m hm
    obtain ⟨k, rfl⟩ : ∃ k, m = k + 1 := ⟨m - 1, by omega⟩
    have e1 : 9 - (d + 1) + 1 = 9 - d := by omega
    refine px_node (rcs := some (pCondB bs (pO bs d), pN bs tc d)) (rc := wp_xnode G k) (dd := d + 1) hG (Or.inr ⟨d, pN bs tc d, e1, by omega, rfl, RnN bs tc d, ?_⟩)
    rw [e1]
    exact ih (by omega) k (by omega)
