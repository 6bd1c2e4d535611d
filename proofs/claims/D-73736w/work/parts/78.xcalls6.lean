/-! The component's calls: names, leaves, comparing, counting -/
set_option maxRecDepth 100000
theorem exC.nm {G : GP} {y : HS} {D Dl : LM} {e : Nat} {E : Ed} {g : EG} (hE : EX G y D Dl e E g) : ∃ gn, y.1 (gLs g).2.2.2.2.2.1 = some (ar 7 16 gn) ∧ (∀ k (h : k < (eCl E).length), ∃ q, gn k = some q ∧ chars y q (eCl E)[k].1) ∧ ∀ k, (eCl E).length ≤ k → gn k = none := hE.1.2.2.2.1
theorem cx_name {G : GP} {y : HS} {X B : Nat} {M : MS} {k i : Int32} {post : Int32 → HS → Prop} (hB : 60 ≤ B) (h : XR G y X M) (hp : ∀ y', XR G y' X M → post (aName (mE M) k i) y') : wp_X1_name G B post y X k i := by
  have hXR := h
  obtain ⟨g, h⟩ := h
  have hE := h.2.2.2.1
  have l16 : (eCl (mE M)).length ≤ 16 := hE.2.2.2.2.2.2.2.2.2.1
  obtain ⟨gn, n1, n2, n3⟩ := exC.nm hE
  refine ⟨_, ⟨_, h.cx, rfl⟩, _, rfl, _, ⟨_, hE.1.1, rfl⟩, _, rfl, 16, gn, Or.inl n1, ?_⟩
  by_cases hv : vp_in k 16
  · have hk0 : ¬ k < 0 := fun z => hv (Or.inl z)
    obtain ⟨c, hc, rfl⟩ := nI_of hk0
    have hc16 : c < 16 := by
      rcases Nat.lt_or_ge c 16 with z | z
      · exact z
      · exact absurd (Or.inr (by rw [nI_clamp hc]; exact z)) hv
    refine Or.inr ⟨hv, ?_⟩
    rw [nI_clamp hc]
    by_cases hcl : c < (eCl (mE M)).length
    · obtain ⟨q, w1, gq, w2, w3⟩ := n2 c hcl
      rw [aName, isSt_at (by omega) hcl, if_pos rfl, ix, nI_clamp hc, List.getElem?_eq_getElem hcl, Option.map_some, Option.getD_some] at hp
      dsimp only at hp
      have hnm := hE.2.2.2.2.2.2.2.2.1.2.2.2 _ (List.getElem_mem hcl)
      have hp' := hp y hXR
      refine Or.inr ⟨q, w1, _, gq, Or.inl w2, fun x14 hx14 => ⟨fun hneg => ⟨_, ⟨_, h.cx, rfl⟩, _, rfl, _, ⟨_, hE.1.1, rfl⟩, _, rfl, 16, gn, Or.inl n1, hv, q, w1, _, gq, Or.inl w2, Or.inl ⟨fun z => z (Or.inl hneg), by have := hnm.2.1; omega, by omega, fun q25 y26 z1 z2 => ?_⟩⟩, fun hpos => ⟨fun hlt => ⟨_, ⟨_, h.cx, rfl⟩, _, rfl, _, ⟨_, hE.1.1, rfl⟩, _, rfl, 16, gn, Or.inl n1, hv, q, w1, _, gq, Or.inl w2, Or.inr ?_⟩, fun hge => ?_⟩⟩⟩
      · have := hp y26 ⟨g, h.grow z1 z2⟩
        rw [if_pos hneg] at this
        exact this
      · obtain ⟨j, hj, rfl⟩ := nI_of hpos
        rw [hx14] at hlt
        have hjl : j < (eCl (mE M))[c].1.length := (nI_ltI hj (by omega)).mp hlt
        rw [if_neg hpos, if_pos hlt] at hp'
        simp only [ix, nI_clamp hj, List.getD_eq_getElem?_getD, List.getElem?_eq_getElem hjl, Option.getD_some] at hp'
        refine ⟨vp_inN hjl (by omega), ?_⟩
        rw [nI_clamp hj, w3 j hjl]
        exact hp'
      · rw [hx14] at hge
        rw [if_neg hpos, if_neg hge] at hp'
        exact hp'
    · refine Or.inl ⟨n3 c (by omega), by omega, fun q10 y11 z1 z2 => ?_⟩
      have hno : isSt (eCl (mE M)).length (nI c) = false := by
        cases e : isSt (eCl (mE M)).length (nI c) with
        | false => rfl
        | true =>
          obtain ⟨c2, z3, z4⟩ := (isSt_iff (by omega)).mp e
          have := (nI_eq hc (by omega)).mp z4
          omega
      have := hp y11 ⟨g, h.grow z1 z2⟩
      rw [aName, hno] at this
      exact this
  · refine Or.inl ⟨hv, by omega, by omega, fun q7 y8 z1 z2 => ?_⟩
    have hno : isSt (eCl (mE M)).length k = false := by
      cases e : isSt (eCl (mE M)).length k with
      | false => rfl
      | true =>
        obtain ⟨c2, z3, rfl⟩ := (isSt_iff (by omega)).mp e
        exact absurd (vp_inN (by omega) (by omega)) hv
    have := hp y8 ⟨g, h.grow z1 z2⟩
    rw [aName, hno] at this
    exact this
theorem cx_staysAt {G : GP} {y : HS} {X n : Nat} {M : MS} {g : XG} {post : Int32 → HS → Prop} (h : XRg G y X M g) (hn : n < (eNd (mE M)).length) (hp : ∀ y', XR G y' X M → post (cnt (atLf (mE M) n) (mS M)) y') : wp_X1_staysAt G post y X (some (gNa (xEg g) n)) := by
  have hl : (mS M).length ≤ 24 := h.2.2.1.2.2.2.1
  refine ⟨fun m y2 x6 x7 => ∃ j, XRg G y2 X M g ∧ x7 = nI j ∧ j ≤ (mS M).length ∧ m = (mS M).length - j ∧ x6 = nI (((mS M).take j).countP (atLf (mE M) n)), ⟨_, 0, h, rfl, Nat.zero_le _, rfl, rfl⟩, ?_⟩
  rintro m y2 x6 x7 ⟨j, h2, rfl, hj, rfl, rfl⟩
  refine ⟨_, ⟨_, h2.cx, rfl⟩, _, rfl, h2.ls, h2.1.size h2.2.2.1.1 ?_⟩
  rw [List.length_map, h2.2.2.1.2.2.1]
  refine ⟨fun hge => ?_, fun hlt => ?_⟩
  · have hh := nle_of (by omega) hj hge
    rw [List.take_of_length_le (by omega)]
    exact hp y2 ⟨g, h2⟩
  · have hj2 := nlt_of (by omega) hj hlt
    refine ⟨h2.rdX, sp_X1_looks h2 hj2 (fun y' hq h' u hs => ⟨_, ⟨_, h'.cx, rfl⟩, _, rfl, _, ⟨_, hs, rfl⟩, fun hne x21 hx21 => ⟨_, by omega, j + 1, h', by rw [nI_add], by omega, rfl, ?_⟩, fun he x23 hx23 => ⟨_, by omega, j + 1, h', by rw [nI_add], by omega, rfl, ?_⟩⟩)⟩
    · have : atLf (mE M) n (mS M)[j] = false := by
        unfold atLf
        cases hN : lkN (mE M) (mS M)[j] with
        | none => rfl
        | some p =>
          dsimp only
          refine decide_eq_false (fun z => hne ?_)
          rw [lkA, hN, Option.map_some, z]
      rw [countP_succ hj2, this, hx21, nI_add]; rfl
    · have : atLf (mE M) n (mS M)[j] = true := by
        unfold atLf
        cases hN : lkN (mE M) (mS M)[j] with
        | none => rw [lkA, hN] at he; cases he
        | some p =>
          dsimp only
          obtain ⟨x, z1, z2, z3, z4, z5⟩ := h'.2.2.2.1.leaf hN
          rw [lkA, hN, Option.map_some] at he
          exact decide_eq_true (h'.2.2.2.1.2.1.2.2 _ _ z5 hn (Option.some.inj he))
      rw [countP_succ hj2, this, hx23, nI_add]; rfl
theorem plc_nd {xs : List Nat} {i : Nat} (hnd : xs.Nodup) (hi : i < xs.length) : plc (xs.map some) (some xs[i]) = nI i := by
  have : (xs.map some).idxOf (some xs[i]) = i := by
    refine idx_atO (by rw [List.length_map]; exact hi) (fun j hj hji e => ?_) (by rw [List.getElem_map])
    rw [List.length_map] at hj
    rw [List.getElem_map] at e
    have := (List.getElem_inj hnd).mp (Option.some.inj e)
    omega
  rw [plc, this, List.length_map, if_pos hi]
theorem cx_leaf {G : GP} {y : HS} {X : Nat} {M : MS} {l w : Int32} {post : Int32 → HS → Prop} (h : XR G y X M) (hp : ∀ y', XR G y' X M → post (aLeaf (mE M) (mS M) l w) y') : wp_X1_leaf G post y X l w := by
  have hXR := h
  obtain ⟨g, h⟩ := h
  have hE := h.2.2.2.1
  have l40 : (eNd (mE M)).length ≤ 40 := hE.2.2.2.2.2.2.2.2.2.2.1
  have l6 : (eCh (mE M)).length ≤ 6 := hE.2.2.2.2.2.2.2.2.2.2.2.2
  have hl := lvs_40 l40
  have hd := xDl_sub g _ _ hE.2.2.2.2.2.1
  have hdo := xDl_sub g _ _ hE.2.2.2.2.2.2.1
  have hdc := xDl_sub g _ _ hE.2.2.1
  obtain ⟨fl, hfl⟩ := h.1.cell hd
  obtain ⟨fo, hfo⟩ := h.1.cell hdo
  obtain ⟨fc, hfc⟩ := h.1.cell hdc
  refine ⟨_, ⟨_, h.cx, rfl⟩, _, rfl, _, ⟨_, hE.1.1, rfl⟩, _, rfl, ⟨fl, Or.inl hfl⟩, h.1.size hd ?_⟩
  rw [List.length_map]
  refine sp_within ⟨fun hb => ?_, fun hb => ?_⟩
  · rw [aLeaf, show isSt (lvs (mE M)).length l = true from hb] at hp
    obtain ⟨c, hc, rfl⟩ := (isSt_iff (by omega)).mp (show isSt (lvs (mE M)).length l = true from hb)
    simp only [if_true, ix, nI_clamp (show c < 2 ^ 31 by omega), List.getElem?_eq_getElem hc] at hp
    obtain ⟨x, w1, w2, w3, w4⟩ := hE.leafAt hc
    simp only [w1, Option.map_some, Option.getD_some] at hp
    refine ⟨_, ⟨_, h.cx, rfl⟩, _, rfl, _, ⟨_, hE.1.1, rfl⟩, _, rfl, ⟨fl, Or.inl hfl⟩, h.1.get hd (by rw [List.length_map]; exact hc) ?_⟩
    rw [List.getElem_map]
    have hp' := hp y hXR
    refine ⟨fun z hz => (by cases hz; exact ⟨_, Or.inl w3⟩), fun e0 => ⟨_, rfl, _, ⟨_, w3, rfl⟩, ?_⟩, fun e0 => ⟨fun e1 => ⟨_, ⟨_, h.cx, rfl⟩, _, rfl, _, ⟨_, hE.1.1, rfl⟩, _, ⟨_, h.cx, rfl⟩, _, rfl, _, ⟨_, hE.1.1, rfl⟩, _, rfl, ⟨fo, Or.inl hfo⟩, h.1.get hdo (by rw [List.length_map]; exact hc) ?_⟩, fun e1 => ⟨fun e2 => ⟨_, rfl, _, ⟨_, w3, rfl⟩, fun hz => ?_, fun hz => ?_⟩, fun e2 => ⟨fun e3 => ⟨h.rdX, cx_staysAt h w4 (fun y' h' => ?_)⟩, fun e3 => ?_⟩⟩⟩⟩
    · rw [if_pos e0] at hp'; exact hp'
    · rw [if_neg e0, if_pos e1] at hp'
      rw [List.getElem_map]
      have hchl := (hE.2.2.2.2.2.2.2.2.1.2.1 _ _ w1).2.2
      have hxl : (gXc (xEg g)).length = (eCh (mE M)).length := hE.2.2.2.1.1
      have hgd : (gXc (xEg g)).getD (chOf (mE M) (lvs (mE M))[c]) 0 = (gXc (xEg g))[x.2.2.2.2]'(by omega) := by
        rw [chOf, w1, Option.map_some, Option.getD_some, List.getD_eq_getElem?_getD, List.getElem?_eq_getElem (by omega), Option.getD_some]
      rw [hgd]
      refine ⟨_, rfl, ⟨fc, Or.inl hfc⟩, h.1.indexOf hdc (fun q9 hq9 => ?_) ?_⟩
      · cases hq9
        obtain ⟨l9, la, ll, tr, nm, z1, -⟩ := hE.2.2.2.1.2 x.2.2.2.2 (by omega) hchl
        exact Or.inr ⟨_, Or.inl z1⟩
      · rw [plc_nd hE.2.2.2.2.1]
        exact hp'
    · rw [if_neg e0, if_neg e1, if_pos e2, bi_z hz] at hp'; exact hp'
    · rw [if_neg e0, if_neg e1, if_pos e2, bi_n hz] at hp'; exact hp'
    · have hp2 := hp y' h'
      rw [if_neg e0, if_neg e1, if_neg e2, if_pos e3] at hp2; exact hp2
    · rw [if_neg e0, if_neg e1, if_neg e2, if_neg e3] at hp'; exact hp'
  · have hp' := hp y hXR
    rw [aLeaf, show isSt (lvs (mE M)).length l = false from hb] at hp'
    exact hp'
theorem cx_dead {G : GP} {y : HS} {X : Nat} {M : MS} {g : XG} {post : Int32 → HS → Prop} (h : XRg G y X M g) (hp : post (cnt (fun n => !(rch (mE M) n)) (lvs (mE M))) y) : wp_X1_dead G post y X := by
  have hE := h.2.2.2.1
  have l40 : (eNd (mE M)).length ≤ 40 := hE.2.2.2.2.2.2.2.2.2.2.1
  have hl := lvs_40 l40
  have hd := xDl_sub g _ _ hE.2.2.2.2.2.1
  obtain ⟨fl, hfl⟩ := h.1.cell hd
  refine ⟨fun n y2 x6 x7 => y2 = y ∧ ∃ j, x7 = nI j ∧ j ≤ (lvs (mE M)).length ∧ n = (lvs (mE M)).length - j ∧ x6 = nI (((lvs (mE M)).take j).countP (fun n => !(rch (mE M) n))), ⟨_, rfl, 0, rfl, Nat.zero_le _, rfl, rfl⟩, ?_⟩
  rintro n y2 x6 x7 ⟨e0, j, rfl, hj, rfl, rfl⟩
  subst e0
  refine ⟨_, ⟨_, h.cx, rfl⟩, _, rfl, _, ⟨_, hE.1.1, rfl⟩, _, rfl, ⟨fl, Or.inl hfl⟩, h.1.size hd ?_⟩
  rw [List.length_map]
  refine ⟨fun hge => ?_, fun hlt => ?_⟩
  · have hh := nle_of (by omega) hj hge
    rw [List.take_of_length_le (by omega)]
    exact hp
  · have hj2 := nlt_of (by omega) hj hlt
    obtain ⟨x, w1, w2, w3, w4⟩ := hE.leafAt hj2
    refine ⟨_, ⟨_, h.cx, rfl⟩, _, rfl, _, ⟨_, hE.1.1, rfl⟩, _, rfl, ⟨fl, Or.inl hfl⟩, h.1.get hd (by rw [List.length_map]; exact hj2) ?_⟩
    rw [List.getElem_map]
    refine ⟨fun z hz => (by cases hz; exact ⟨_, Or.inl w3⟩), _, rfl, _, ⟨_, w3, rfl⟩, fun he x27 hx27 => ⟨(lvs (mE M)).length - (j + 1), by omega, rfl, j + 1, by rw [nI_add], by omega, rfl, ?_⟩, fun hne x29 hx29 => ⟨(lvs (mE M)).length - (j + 1), by omega, rfl, j + 1, by rw [nI_add], by omega, rfl, ?_⟩⟩
    · rw [countP_succ hj2, bi_z he, hx27, nI_add]; rfl
    · rw [countP_succ hj2, bi_n hne, hx29, nI_add]; rfl
theorem cx_weights {G : GP} {y : HS} {X : Nat} {M : MS} {post : Int32 → HS → Prop} (h : XR G y X M) (hp : ∀ y', XR G y' X M → post (sumW (lkW (mE M)) (mS M)) y') : wp_X1_weights G post y X := by
  obtain ⟨g, h⟩ := h
  have hl : (mS M).length ≤ 24 := h.2.2.1.2.2.2.1
  refine ⟨fun n y2 x6 x7 => ∃ j, XRg G y2 X M g ∧ x7 = nI j ∧ j ≤ (mS M).length ∧ n = (mS M).length - j ∧ x6 = sumW (lkW (mE M)) ((mS M).take j), ⟨_, 0, h, rfl, Nat.zero_le _, rfl, nI_0⟩, ?_⟩
  rintro n y2 x6 x7 ⟨j, h2, rfl, hj, rfl, rfl⟩
  refine ⟨_, ⟨_, h2.cx, rfl⟩, _, rfl, h2.ls, h2.1.size h2.2.2.1.1 ?_⟩
  rw [List.length_map, h2.2.2.1.2.2.1]
  refine ⟨fun hge => ?_, fun hlt => ?_⟩
  · have hh := nle_of (by omega) hj hge
    rw [List.take_of_length_le (by omega)]
    exact hp y2 ⟨g, h2⟩
  · have hj2 := nlt_of (by omega) hj hlt
    exact ⟨h2.rdX, sp_X1_looks h2 hj2 (fun y' hq h' u hs => ⟨_, ⟨_, h'.cx, rfl⟩, _, rfl, ⟨_, Or.inl hs⟩, sp_weight h'.2.2.2.1 hs (fun x22 hx22 => ⟨_, by omega, j + 1, h', by rw [nI_add], by omega, rfl, by rw [sumW_succ hj2, hx22]⟩)⟩)⟩
theorem cnt_neg {E : Ed} {ss : List St} (ho : EdOk E) (hl : (eNd E).length ≤ 40) (hc : (eCl E).length ≤ 16) : cnt (fun s => decide (lkK E s = -1)) ss = cnt (fun s => decide (lkK E s < 0)) ss := by
  unfold cnt
  congr 1
  refine List.countP_congr (fun s _ => ?_)
  rcases lkK_cases (s := s) ho hl with e | ⟨j, hj, e⟩
  · rw [e]; simp
  · rw [e]
    have h1 : ¬ nI j < 0 := nI_pos (by omega)
    have h2 : ¬ nI j = -1 := fun z => h1 (by rw [z]; decide)
    simp [h1, h2]
theorem cx_count {G : GP} {y : HS} {X : Nat} {M : MS} {w : Int32} {post : Int32 → HS → Prop} (h : XR G y X M) (hp : ∀ y', XR G y' X M → post (aCount (mE M) (mS M) (mT M) w) y') : wp_X1_count G post y X w := by
  have hXR := h
  obtain ⟨g, h⟩ := h
  have hE := h.2.2.2.1
  have l16 : (eCl (mE M)).length ≤ 16 := hE.2.2.2.2.2.2.2.2.2.1
  have l40 : (eNd (mE M)).length ≤ 40 := hE.2.2.2.2.2.2.2.2.2.2.1
  obtain ⟨c1, ⟨xr, r1, r2⟩, ⟨xp, p1, p2⟩, -⟩ := hE.1
  have hd := xDl_sub g _ _ hE.2.2.2.2.2.1
  have hdc := xDl_sub g _ _ hE.2.2.1
  have hdr := xDl_sub g _ _ r1
  have hdp := xDl_sub g _ _ p1
  obtain ⟨fl, hfl⟩ := h.1.cell hd
  obtain ⟨fc, hfc⟩ := h.1.cell hdc
  obtain ⟨fr, hfr⟩ := h.1.cell hdr
  obtain ⟨fp, hfp⟩ := h.1.cell hdp
  have hp' := hp y hXR
  unfold aCount at hp hp'
  refine ⟨fun e0 => ⟨_, ⟨_, h.cx, rfl⟩, _, rfl, _, ⟨_, c1, rfl⟩, _, rfl, ⟨fc, Or.inl hfc⟩, h.1.size hdc ?_⟩, fun e0 => ⟨fun e1 => ⟨_, ⟨_, h.cx, rfl⟩, _, rfl, _, ⟨_, c1, rfl⟩, _, rfl, ⟨fr, Or.inl hfr⟩, h.1.size hdr ?_⟩, fun e1 => ⟨fun e2 => ⟨_, ⟨_, h.cx, rfl⟩, _, rfl, _, ⟨_, c1, rfl⟩, _, rfl, ⟨fp, Or.inl hfp⟩, h.1.size hdp ?_⟩, fun e2 => ⟨fun e3 => ⟨_, ⟨_, h.cx, rfl⟩, _, rfl, _, ⟨_, c1, rfl⟩, ?_⟩, fun e3 => ⟨fun e4 => ⟨_, ⟨_, h.cx, rfl⟩, _, rfl, _, ⟨_, c1, rfl⟩, _, rfl, ⟨fl, Or.inl hfl⟩, h.1.size hd ?_⟩, fun e4 => ⟨fun e5 => ⟨h.rdX, cx_dead h ?_⟩, fun e5 => ⟨fun e6 => ⟨_, ⟨_, h.cx, rfl⟩, _, rfl, h.ls, h.1.size h.2.2.1.1 ?_⟩, fun e6 => ⟨fun e7 => ⟨h.rdX, cx_weights hXR (fun y' h' => ?_)⟩, fun e7 => ⟨fun e8 => ⟨h.rdX, cx_staysOf hXR (fun y' h' => ?_)⟩, fun e8 => ⟨fun e9 => ⟨_, ⟨_, h.cx, rfl⟩, ?_⟩, fun e9 => ⟨fun e10 => ⟨_, ⟨_, h.cx, rfl⟩, _, rfl, _, ⟨_, c1, rfl⟩, ?_⟩, fun e10 => ?_⟩⟩⟩⟩⟩⟩⟩⟩⟩⟩⟩
  · rw [if_pos e0] at hp'; rw [List.length_map, hE.2.2.2.1.1]; exact hp'
  · rw [if_neg e0, if_pos e1] at hp'; rw [r2.1]; exact hp'
  · rw [if_neg e0, if_neg e1, if_pos e2] at hp'; rw [p2.1]; exact hp'
  · rw [if_neg e0, if_neg e1, if_neg e2, if_pos e3] at hp'; exact hp'
  · rw [if_neg e0, if_neg e1, if_neg e2, if_neg e3, if_pos e4] at hp'; rw [List.length_map]; exact hp'
  · rw [if_neg e0, if_neg e1, if_neg e2, if_neg e3, if_neg e4, if_pos e5] at hp'; exact hp'
  · rw [if_neg e0, if_neg e1, if_neg e2, if_neg e3, if_neg e4, if_neg e5, if_pos e6] at hp'; rw [List.length_map, h.2.2.1.2.2.1]; exact hp'
  · have hp2 := hp y' h'
    rw [if_neg e0, if_neg e1, if_neg e2, if_neg e3, if_neg e4, if_neg e5, if_neg e6, if_pos e7] at hp2; exact hp2
  · have hp2 := hp y' h'
    rw [if_neg e0, if_neg e1, if_neg e2, if_neg e3, if_neg e4, if_neg e5, if_neg e6, if_neg e7, if_pos e8] at hp2
    rw [cnt_neg hE.2.2.2.2.2.2.2.2.1 l40 l16]
    exact hp2
  · rw [if_neg e0, if_neg e1, if_neg e2, if_neg e3, if_neg e4, if_neg e5, if_neg e6, if_neg e7, if_neg e8, if_pos e9] at hp'; exact hp'
  · rw [if_neg e0, if_neg e1, if_neg e2, if_neg e3, if_neg e4, if_neg e5, if_neg e6, if_neg e7, if_neg e8, if_neg e9, if_pos e10] at hp'; exact hp'
  · rw [if_neg e0, if_neg e1, if_neg e2, if_neg e3, if_neg e4, if_neg e5, if_neg e6, if_neg e7, if_neg e8, if_neg e9, if_neg e10] at hp'; exact hp'
theorem sp_isCalled {G : GP} {y : HS} {D Dl : LM} {e k q2 : Nat} {E : Ed} {g : EG} {bs : List Nat} {post : Bool → HS → Prop} (hE : EX G y D Dl e E g) (hk : k < (eCl E).length) (h2 : chars y q2 bs) (hb : bs.length ≤ 100) (hb2 : ∀ b ∈ bs, b < 256) (hp : post (decide ((eCl E)[k].1 = bs)) y) : wp_X2_isCalled G post y e (nI k) (some q2) := by
  have l16 : (eCl E).length ≤ 16 := hE.2.2.2.2.2.2.2.2.2.1
  obtain ⟨gn, n1, n2, n3⟩ := exC.nm hE
  obtain ⟨q, w1, gq, w2, w3⟩ := n2 k hk
  obtain ⟨g2, z2, z3⟩ := h2
  have hnm := hE.2.2.2.2.2.2.2.2.1.2.2.2 _ (List.getElem_mem hk)
  have hvk : vp_in (nI k) 16 := vp_inN (by omega) (by omega)
  have hck : (nI k).toNatClampNeg = k := nI_clamp (by omega)
  refine ⟨_, ⟨_, hE.1.1, rfl⟩, _, rfl, 16, gn, Or.inl n1, hvk, q, by rw [hck]; exact w1, _, gq, Or.inl w2, q2, rfl, _, g2, Or.inl z2, fun he => ?_, fun hne => ?_⟩
  · have hl : (eCl E)[k].1.length = bs.length := (nI_eq (by omega) (by omega)).mp he
    refine ⟨fun n y' x => y' = y ∧ ∃ j, x = nI j ∧ j ≤ bs.length ∧ n = bs.length - j ∧ ∀ i (h1 : i < (eCl E)[k].1.length) (h2 : i < bs.length), i < j → (eCl E)[k].1[i] = bs[i], ⟨_, rfl, 0, rfl, Nat.zero_le _, rfl, fun i _ _ h => absurd h (Nat.not_lt_zero _)⟩, ?_⟩
    rintro n y' x ⟨e0, j, rfl, hj, rfl, hyes⟩
    subst e0
    refine ⟨_, g2, Or.inl z2, fun hge => ?_, fun hlt => ?_⟩
    · have hh := nle_of (by omega) hj hge
      have : (eCl E)[k].1 = bs := List.ext_getElem hl (fun i h1 h2 => hyes i h1 h2 (by omega))
      rw [decide_eq_true this] at hp
      exact hp
    · have hj2 := nlt_of (by omega) hj hlt
      refine ⟨_, ⟨_, hE.1.1, rfl⟩, _, rfl, 16, gn, Or.inl n1, hvk, q, by rw [hck]; exact w1, _, gq, Or.inl w2, vp_inN (by omega) (by omega), _, g2, Or.inl z2, vp_inN hj2 (by omega), ?_⟩
      rw [nI_clamp (show j < 2 ^ 31 by omega), w3 j (by omega), z3 j hj2]
      have a1 := hnm.2.2 _ (List.getElem_mem (show j < (eCl E)[k].1.length by omega))
      have a2 := hb2 _ (List.getElem_mem hj2)
      refine ⟨fun heq => ⟨bs.length - (j + 1), by omega, rfl, j + 1, by rw [nI_add], by omega, rfl, fun i h1 h2 hij => ?_⟩, fun hne => ?_⟩
      · by_cases e : i = j
        · subst e; exact (nI_eq (by omega) (by omega)).mp heq
        · exact hyes i h1 h2 (by omega)
      · have : ¬ (eCl E)[k].1 = bs := fun z => hne (by simp only [z])
        rw [decide_eq_false this] at hp
        exact hp
  · have : ¬ (eCl E)[k].1 = bs := fun z => hne (by rw [z])
    rw [decide_eq_false this] at hp
    exact hp
