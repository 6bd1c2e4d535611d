/-! The component's calls: the tape, rows that are listed, classes, leaves, counting, comparing -/
set_option maxRecDepth 100000
/-- only the objects at a, b are others -/
def SU2 (y y' : HS) (a b : Nat) : Prop := (∀ x, x ≠ a → x ≠ b → y'.1 x = y.1 x) ∧ y'.2 = y.2
theorem sp_eightX {G : GP} {y : HS} {X tp : Nat} {bs : List Nat} {v : Int64} {gt : Nat → Int32} {w2 w3 w4 w5 w6 w7 : Value} {post : HS → Prop} (hne : X ≠ tp) (hl : bs.length + 8 ≤ 936) (hX : y.1 X = some (ob 0 [va_rf (some tp), .int (nI bs.length), w2, w3, w4, w5, w6, w7])) (ht : y.1 tp = some (ai 3 936 gt)) (hg : ∀ j (h : j < bs.length), gt j &&& nI 255 = nI bs[j])
    (hp : ∀ y' gt', SU2 y y' X tp → y'.1 X = some (ob 0 [va_rf (some tp), .int (nI (bs ++ by8 v).length), w2, w3, w4, w5, w6, w7]) → y'.1 tp = some (ai 3 936 gt') → (∀ j (h : j < (bs ++ by8 v).length), gt' j &&& nI 255 = nI (bs ++ by8 v)[j]) → post y') : wp_X1_eight G post y X v := by
  refine ⟨fun n y' x => ∃ i gt', i ≤ 8 ∧ x = nI 56 - nI (8 * i) ∧ n = 8 - i ∧ SU2 y y' X tp ∧ y'.1 X = some (ob 0 [va_rf (some tp), .int (nI (bs.length + i)), w2, w3, w4, w5, w6, w7]) ∧ y'.1 tp = some (ai 3 936 gt') ∧ ∀ j (h : j < (bs ++ ((List.range i).map (fun i => (b8 v i).toNatClampNeg))).length), gt' j &&& nI 255 = nI (bs ++ ((List.range i).map (fun i => (b8 v i).toNatClampNeg)))[j], ⟨_, 0, gt, by omega, by decide, rfl, ⟨fun _ _ _ => rfl, rfl⟩, hX, ht, fun j h => ?_⟩, ?_⟩
  · simp only [List.range_zero, List.map_nil, List.append_nil] at h ⊢
    exact hg j h
  · rintro n y' x ⟨i, gt', hi, rfl, rfl, hS, hX', ht', hg'⟩
    have hlen : (bs ++ ((List.range i).map (fun i => (b8 v i).toNatClampNeg))).length = bs.length + i := by rw [List.length_append, List.length_map, List.length_range]
    refine ⟨fun hneg => ?_, fun hpos => ?_⟩
    · have hi8 : i = 8 := by
        rcases Nat.lt_or_ge i 8 with z1 | z1
        · exact absurd hneg (e8 i z1).2
        · omega
      subst hi8
      refine hp y' gt' hS ?_ ht' hg'
      rw [hX', List.length_append, by8_len]
    · have hi8 : i < 8 := by
        rcases Nat.lt_or_ge i 8 with z1 | z1
        · exact z1
        · rw [show i = 8 by omega] at hpos; exact absurd (by decide) hpos
      refine ⟨_, ⟨_, hX', rfl⟩, _, ⟨_, hX', rfl⟩, tp, rfl, 936, gt', ht', vp_inN (by omega) (by omega), fun y13 hy13 => ?_⟩
      rw [nI_clamp (show bs.length + i < 2 ^ 31 by omega)] at hy13
      have h13 : y13.1 X = some (ob 0 [va_rf (some tp), .int (nI (bs.length + i)), w2, w3, w4, w5, w6, w7]) := by rw [hy13, hput_ne hne]; exact hX'
      refine ⟨_, ⟨_, h13, rfl⟩, _, h13, by simp, fun y16 hy16 => ⟨8 - (i + 1), by omega, i + 1, upd gt' (bs.length + i) (vp_nar .byte (((v >>> ((nI 56 - nI (8 * i)).toInt64 &&& 63)).toInt32).toInt8.toInt32)), by omega, (e8 i hi8).1, rfl, ⟨fun x h1 h2 => ?_, ?_⟩, ?_, ?_, fun j hj => ?_⟩⟩
      · rw [hy16, hput_ne h1, hy13, hput_ne h2]; exact hS.1 x h1 h2
      · rw [hy16, hput_2, hy13, hput_2]; exact hS.2
      · rw [hy16, hput_at, nI_add]; rfl
      · rw [hy16, hput_ne hne.symm, hy13, hput_at]
      · have hj2 : j < bs.length + i + 1 := by
          rw [List.length_append, List.length_map, List.length_range] at hj; omega
        have hsnoc : bs ++ ((List.range (i + 1)).map (fun i => (b8 v i).toNatClampNeg)) = (bs ++ ((List.range i).map (fun i => (b8 v i).toNatClampNeg))) ++ [(b8 v i).toNatClampNeg] := by
          rw [List.range_succ, List.map_append, ← List.append_assoc]; rfl
        simp only [hsnoc]
        unfold upd
        by_cases e : j = bs.length + i
        · subst e
          rw [if_pos rfl, byte255]
          have : ((bs ++ ((List.range i).map (fun i => (b8 v i).toNatClampNeg))) ++ [(b8 v i).toNatClampNeg])[bs.length + i]'(by rw [List.length_append, hlen, List.length_singleton]; omega) = (b8 v i).toNatClampNeg := by
            rw [List.getElem_append_right (by omega)]
            simp [hlen]
          rw [this]
          exact (b8_lt v i).2
        · rw [if_neg e, List.getElem_append_left (by omega)]
          exact hg' j (by omega)
theorem XRg.tape {G : GP} {y y' : HS} {X : Nat} {M : MS} {g : XG} {tp : List Nat} {gt : Nat → Int32} (h : XRg G y X M g) (u : SU2 y y' X (xTp g)) (hX : y'.1 X = some (ob 0 [va_rf (some (xTp g)), .int (nI tp.length), .int (mF M), va_rf (some (xLs g)), va_rf (some (xE g)), va_rf (xKq g), va_rf (some (xSn g)), va_rf (some (xOt g))])) (ht : y'.1 (xTp g) = some (ai 3 936 gt)) (hl : tp.length ≤ 936) (hb : ∀ b ∈ tp, b < 256) (hg : ∀ j (h : j < tp.length), gt j &&& nI 255 = nI tp[j]) : XRg G y' X (mE M, mK M, mS M, tp, mF M) (g.1, g.2.1, g.2.2.1, g.2.2.2.1, g.2.2.2.2.1, g.2.2.2.2.2.1, gt) := by
  obtain ⟨h1, ⟨c1, c2, c3⟩, h3, h4, h5, ⟨v0, v1, c0, t0, k0, w0, lf0, wy0, h6⟩, ⟨v0', v1', c0', t0', k0', w0', lf0', wy0', h7⟩, h8⟩ := h
  have keep : ∀ b e, y.1 b = some e → (∀ fs, e ≠ ob 0 fs) → (∀ f, e ≠ ai 3 936 f) → y'.1 b = some e := fun b e hb2 e1 e2 => by
    rw [u.1 b (fun z => by subst z; rw [c1] at hb2; exact e1 _ (Option.some.inj hb2).symm) (fun z => by subst z; rw [c2] at hb2; exact e2 _ (Option.some.inj hb2).symm)]
    exact hb2
  have hkb : Kb y y' := fun b e hb2 he => keep b e hb2 (fun fs z => by rw [z] at he; simp [isV, ob] at he) (fun f z => by rw [z] at he; simp [isV, ai] at he)
  have hls : ∀ b e, y.1 b = some e → isLs e = true → y'.1 b = some e := fun b e hb2 he => keep b e hb2 (fun fs z => by rw [z] at he; simp [isLs, ob] at he) (fun f z => by rw [z] at he; simp [isLs, ai] at he)
  have kc : ∀ c, c ≠ 0 → Kc y y' c := fun c hc b fs hb2 => keep b _ hb2 (fun gs z => hc (ob_inj.mp z).1) (fun f z => ob_ne_ai z)
  have hkf : KF y (xD g) y' (xD g) := KF.step hls (fun a xs hd => h1.cell hd)
  have hv : V G y' (xD g) := by
    refine h1.step ⟨fun b e hb2 => ?_, h1.1.2.1, by rw [u.2]; exact h1.1.2.2⟩ hls (fun v c gs hg2 => ?_)
    · rw [u.2]
      by_cases e1 : b = X
      · subst e1; exact h1.1.1 _ _ c1
      · by_cases e2 : b = xTp g
        · subst e2; exact h1.1.1 _ _ c2
        · rw [u.1 b e1 e2] at hb2; exact h1.1.1 _ _ hb2
    · by_cases hc : c = 0
      · subst hc
        by_cases e1 : v = X
        · subst e1; exact ⟨_, hX⟩
        · by_cases e2 : v = xTp g
          · subst e2; rw [c2] at hg2; exact absurd (Option.some.inj hg2).symm ob_ne_ai
          · exact ⟨gs, by rw [u.1 v e1 e2]; exact hg2⟩
      · exact ⟨gs, kc c hc _ _ hg2⟩
  exact ⟨hv, ⟨hX, ht, hl, hb, hg⟩, h3.kb hkb (kc 17 (by decide)), h4.kb hkb ((kc 1 (by decide) _ _ h4.1.1).trans h4.1.1.symm) hkf, h5.kb hkb (kc 1 (by decide)) hkf rfl, ⟨v0, v1, c0, t0, k0, w0, lf0, wy0, kc 2 (by decide) _ _ h6⟩, ⟨v0', v1', c0', t0', k0', w0', lf0', wy0', kc 2 (by decide) _ _ h7⟩, h8⟩
theorem cx_feed {G : GP} {y : HS} {X : Nat} {M : MS} {a b c : Int64} {post : Int32 → HS → Prop} (h : XR G y X M) (hp : ∀ y', XR G y' X (mE M, mK M, mS M, (aFeed (mT M) a b c).2, mF M) → post (aFeed (mT M) a b c).1 y') : wp_X1_feed G post y X a b c := by
  obtain ⟨g, h⟩ := h
  obtain ⟨-, ⟨c1, c2, c3, c4, c5⟩, -⟩ := id h
  have hne : X ≠ xTp g := fun z => by rw [z, c2] at c1; exact ob_ne_ai (Option.some.inj c1).symm
  refine ⟨_, ⟨_, h.cx, rfl⟩, ?_, ?_⟩
  · rw [nI_add]
    intro hle
    have hl : (mT M).length + 24 ≤ 936 := (nI_leI (by omega) (by omega)).mp hle
    rw [aFeed, if_pos hl] at hp
    refine ⟨h.rdX, sp_eightX hne (by omega) c1 c2 c5 (fun y1 g1 u1 x1 t1 b1 => ⟨⟨_, Or.inl x1⟩, sp_eightX hne (by rw [List.length_append, by8_len]; omega) x1 t1 b1 (fun y2 g2 u2 x2 t2 b2 => ⟨⟨_, Or.inl x2⟩, sp_eightX hne (by rw [List.length_append, List.length_append, by8_len, by8_len]; omega) x2 t2 b2 (fun y3 g3 u3 x3 t3 b3 => ⟨_, ⟨_, x3, rfl⟩, ?_⟩)⟩)⟩)⟩
    have hlen : (mT M ++ by8 a ++ by8 b ++ by8 c).length = (mT M).length + 24 := by rw [List.length_append, List.length_append, List.length_append, by8_len, by8_len, by8_len]
    have u : SU2 y y3 X (xTp g) := ⟨fun x e1 e2 => (u3.1 x e1 e2).trans ((u2.1 x e1 e2).trans (u1.1 x e1 e2)), u3.2.trans (u2.2.trans u1.2)⟩
    have h' := h.tape u x3 t3 (by omega) (fun z hz => ?_) b3
    · rw [hlen]
      exact hp y3 ⟨_, h'⟩
    · rcases List.mem_append.mp hz with hz | hz
      · rcases List.mem_append.mp hz with hz | hz
        · rcases List.mem_append.mp hz with hz | hz
          · exact c4 z hz
          · exact by8_lt a z hz
        · exact by8_lt b z hz
      · exact by8_lt c z hz
  · rw [nI_add]
    intro hle
    have hl : ¬ (mT M).length + 24 ≤ 936 := fun z => hle (nI_le z (by omega))
    rw [aFeed, if_neg hl] at hp
    exact hp y ⟨g, h⟩
theorem cx_listed {G : GP} {y : HS} {X B : Nat} {M : MS} {i kd j : Int32} {post : Int32 → HS → Prop} {xp : Nat → Nat → HS → Prop} (hB : 60 ≤ B) (h : XR G y X M) (h0 : aListed (mS M) i kd j = none → ∀ q y', XR G y' X M → xp 23 q y') (h1 : ∀ v y', aListed (mS M) i kd j = some v → XR G y' X M → post v y') : wp_X1_listed G B post xp y X i kd j := by
  obtain ⟨g, h⟩ := h
  have hl : (mS M).length ≤ 24 := h.2.2.1.2.2.2.1
  refine ⟨fun y3 u4 => y3 = y ∧ u4 = 0 ∧ aListed (mS M) i kd j = none, ?_, h.rdX, sp_isStay h ?_⟩
  · rintro y3 u4 ⟨e1, rfl, hN⟩
    subst e1
    exact ⟨by omega, by omega, fun q5 y6 z1 z2 => h0 hN q5 y6 ⟨g, h.grow z1 z2⟩⟩
  · rcases isSt_or (n := (mS M).length) (by omega) i with e | ⟨k, hk, rfl⟩
    · rw [e]
      exact ⟨fun _ => ⟨rfl, rfl, by rw [aListed, gst_none e]⟩, fun z => (by cases z)⟩
    · rw [isSt_at (by omega) hk]
      refine ⟨fun z => (by cases z), fun _ => sp_within ⟨fun hb => ?_, fun hb => ⟨rfl, rfl, ?_⟩⟩⟩
      · have hq : k < (xSq g).length := by rw [h.2.2.1.2.2.1]; exact hk
        obtain ⟨hst, -, -, ho⟩ := h.2.2.1.2.2.2.2.2 k hk hq
        obtain ⟨z0, ⟨xs1, b1, b2⟩, ⟨xs2, d1, d2⟩, z4, z5, z6⟩ := id hst
        have hl8 : (if kd = 0 then sSecs (mS M)[k] else sProcs (mS M)[k]).length ≤ 8 := by
          split
          · exact z5
          · omega
        have hA : ∀ xs row l, xD g l = some xs → BX G y xs row → (if kd = 0 then sSecs (mS M)[k] else sProcs (mS M)[k]) = row → wp_J2_size G (fun x21 y20 => wp_X1_within G (fun b24 y23 => (b24 = true → (∃ fs28, rd G y23 l (ob 18 fs28)) ∧ wp_J2_get G (fun r27 y26 => isOf G y26 r27 21 ∧ ∃ a29, r27 = some a29 ∧ (∃ fs32, rd G y26 a29 (ob 21 fs32)) ∧ wp_J13_intValue G (fun x31 y30 => post x31 y30) y26 a29) y23 l j) ∧ (b24 = false → 0 + 60 ≤ B ∧ ∀ (q33 : Nat) (y34 : HS), y34.1 = y23.1 → y23.2 ≤ y34.2 → xp 23 q33 y34)) y20 j (nI 0) (x21 - (nI 1))) y l := by
          intro xs row l hd hbx hrow
          rw [hrow] at hl8
          refine h.1.size hd (sp_within ?_)
          rw [hbx.len]
          refine ⟨fun hb2 => ?_, fun hb2 => ⟨by omega, fun q33 y34 w1 w2 => h0 ?_ q33 y34 ⟨g, h.grow w1 w2⟩⟩⟩
          · obtain ⟨r, hr, rfl⟩ := (isSt_iff (by omega)).mp (show isSt row.length j = true from hb2)
            obtain ⟨fl, hfl⟩ := h.1.cell hd
            have hbr := hbx.at r (by rw [hbx.len]; exact hr) hr
            have hbr2 := hbr
            obtain ⟨q2, w1, w2⟩ := hbr
            refine ⟨⟨fl, Or.inl hfl⟩, h.1.get hd (by rw [hbx.len]; exact hr) ⟨hbr2.of, q2, w1, ⟨_, w2⟩, sp_intValue w2 (h1 _ y ?_ ⟨g, h⟩)⟩⟩
            rw [aListed, gst_some (by omega) hk]
            dsimp only
            rw [hb, if_pos rfl, hrow, isSt_at (by omega) hr, if_pos rfl, ix, nI_clamp (by omega), List.getElem?_eq_getElem hr]
          · rw [aListed, gst_some (by omega) hk]
            dsimp only
            rw [hb, if_pos rfl, hrow, show isSt row.length j = false from hb2]
            rfl
        refine ⟨fun y16 u18 r17 => y16 = y ∧ u18 = 0 ∧ ∃ l, r17 = some l ∧ l = (if kd = 0 then xS1 g (xSq g)[k] else xS2 g (xSq g)[k]), ?_, _, ⟨_, h.cx, rfl⟩, _, rfl, h.ls, sp_stayAt h hk (fun _ hst2 _ => ⟨hst2.of, fun hk0 => ⟨_, rfl, _, ⟨_, z0, rfl⟩, rfl, rfl, _, rfl, by rw [if_neg hk0]⟩, fun hk0 => ⟨_, rfl, _, ⟨_, z0, rfl⟩, rfl, rfl, _, rfl, by rw [if_pos hk0]⟩⟩)⟩
        rintro y16 u18 r17 ⟨e1, rfl, l, rfl, el⟩
        subst e1
        by_cases hk0 : kd = 0
        · rw [if_pos hk0] at el
          subst el
          obtain ⟨fl, hfl⟩ := h.1.cell b1
          exact ⟨by omega, _, rfl, ⟨fl, Or.inl hfl⟩, hA xs1 _ _ b1 b2 (if_pos hk0)⟩
        · rw [if_neg hk0] at el
          subst el
          obtain ⟨fl, hfl⟩ := h.1.cell d1
          exact ⟨by omega, _, rfl, ⟨fl, Or.inl hfl⟩, hA xs2 _ _ d1 d2 (if_neg hk0)⟩
      · rw [aListed, gst_some (by omega) hk]
        dsimp only
        rw [hb]; rfl
theorem cx_staysOf {G : GP} {y : HS} {X : Nat} {M : MS} {c : Int32} {post : Int32 → HS → Prop} (h : XR G y X M) (hp : ∀ y', XR G y' X M → post (cnt (fun s => decide (lkK (mE M) s = c)) (mS M)) y') : wp_X1_staysOf G post y X c := by
  obtain ⟨g, h⟩ := h
  have hl : (mS M).length ≤ 24 := h.2.2.1.2.2.2.1
  refine ⟨fun n y2 x6 x7 => ∃ j, XRg G y2 X M g ∧ x7 = nI j ∧ j ≤ (mS M).length ∧ n = (mS M).length - j ∧ x6 = nI (((mS M).take j).countP (fun s => decide (lkK (mE M) s = c))), ⟨_, 0, h, rfl, Nat.zero_le _, rfl, rfl⟩, ?_⟩
  rintro n y2 x6 x7 ⟨j, h2, rfl, hj, rfl, rfl⟩
  refine ⟨_, ⟨_, h2.cx, rfl⟩, _, rfl, h2.ls, h2.1.size h2.2.2.1.1 ?_⟩
  rw [List.length_map, h2.2.2.1.2.2.1]
  refine ⟨fun hge => ?_, fun hlt => ?_⟩
  · have hh := nle_of (by omega) hj hge
    rw [List.take_of_length_le (by omega)]
    exact hp y2 ⟨g, h2⟩
  · have hj2 := nlt_of (by omega) hj hlt
    refine ⟨h2.rdX, sp_X1_looks h2 hj2 (fun y' hq h' u hs => ⟨_, ⟨_, h'.cx, rfl⟩, _, rfl, ⟨_, Or.inl hs⟩, sp_cls h'.2.2.2.1 hs ⟨fun hne x23 hx23 => ⟨_, by omega, j + 1, h', by rw [nI_add], by omega, rfl, ?_⟩, fun he x25 hx25 => ⟨_, by omega, j + 1, h', by rw [nI_add], by omega, rfl, ?_⟩⟩⟩)⟩
    · rw [countP_succ hj2, decide_eq_false hne, hx23, nI_add]; rfl
    · rw [countP_succ hj2, decide_eq_true he, hx25, nI_add]; rfl
/-- the leaf in place j -/
theorem EX.leafAt {G : GP} {y : HS} {D Dl : LM} {e j : Nat} {E : Ed} {g : EG} (hE : EX G y D Dl e E g) (hj : j < (lvs E).length) : ∃ x : Nd, (eNd E)[(lvs E)[j]]? = some x ∧ ¬ x.1 < 0 ∧ y.1 (gNa g (lvs E)[j]) = some (ob 11 [.int x.1, .int (bi (rch E (lvs E)[j]))]) ∧ (lvs E)[j] < (eNd E).length := by
  have hm := List.getElem_mem hj
  have hlt := lvs_mem hm
  have hm' : (lvs E)[j] ∈ lvP E (eCh E).length := hm
  obtain ⟨c', h1, h2⟩ := List.mem_flatMap.mp hm'
  have h3 := (List.mem_filter.mp h2).2
  have hx : (eNd E)[(lvs E)[j]]? = some (eNd E)[(lvs E)[j]] := List.getElem?_eq_getElem hlt
  have h4 : ¬ (eNd E)[(lvs E)[j]].1 < 0 := fun z => by
    unfold pLf at h3
    rw [hx] at h3
    simp [z] at h3
  exact ⟨_, hx, h4, hE.2.2.2.2.2.2.2.1 _ _ hx h4, hlt⟩
theorem lvs_40 {E : Ed} (h : (eNd E).length ≤ 40) : (lvs E).length ≤ 40 := by
  have := lvP_le E (eCh E).length
  rw [lvs_eq]; omega
theorem cx_leavesOf {G : GP} {y : HS} {X : Nat} {M : MS} {c : Int32} {g : XG} {post : Int32 → HS → Prop} (h : XRg G y X M g) (hp : post (cnt (lfOf (mE M) c) (lvs (mE M))) y) : wp_X1_leavesOf G post y X c := by
  have hE := h.2.2.2.1
  have l40 : (eNd (mE M)).length ≤ 40 := hE.2.2.2.2.2.2.2.2.2.2.1
  have hl := lvs_40 l40
  have hd := xDl_sub g _ _ hE.2.2.2.2.2.1
  obtain ⟨fl, hfl⟩ := h.1.cell hd
  refine ⟨fun n y2 x6 x7 => y2 = y ∧ ∃ j, x7 = nI j ∧ j ≤ (lvs (mE M)).length ∧ n = (lvs (mE M)).length - j ∧ x6 = nI (((lvs (mE M)).take j).countP (lfOf (mE M) c)), ⟨_, rfl, 0, rfl, Nat.zero_le _, rfl, rfl⟩, ?_⟩
  rintro n y2 x6 x7 ⟨e0, j, rfl, hj, rfl, rfl⟩
  subst e0
  refine ⟨_, ⟨_, h.cx, rfl⟩, _, rfl, _, ⟨_, hE.1.1, rfl⟩, _, rfl, ⟨fl, Or.inl hfl⟩, h.1.size hd ?_⟩
  rw [List.length_map]
  refine ⟨fun hge => ?_, fun hlt => ?_⟩
  · have hh := nle_of (by omega) hj hge
    rw [List.take_of_length_le (by omega)]
    exact hp
  · have hj2 := nlt_of (by omega) hj hlt
    obtain ⟨x, w1, w2, w3, w4⟩ := hE.leafAt hj2
    refine ⟨_, ⟨_, h.cx, rfl⟩, _, rfl, _, ⟨_, hE.1.1, rfl⟩, _, rfl, ⟨fl, Or.inl hfl⟩, h.1.get hd (by rw [List.length_map]; exact hj2) ?_⟩
    rw [List.getElem_map]
    have hlf : lfOf (mE M) c (lvs (mE M))[j] = decide (x.1 = c) := by rw [lfOf, w1, Option.map_some, Option.getD_some]
    refine ⟨fun z hz => (by cases hz; exact ⟨_, Or.inl w3⟩), _, rfl, _, ⟨_, w3, rfl⟩, fun hne x27 hx27 => ⟨(lvs (mE M)).length - (j + 1), by omega, rfl, j + 1, by rw [nI_add], by omega, rfl, ?_⟩, fun he x29 hx29 => ⟨(lvs (mE M)).length - (j + 1), by omega, rfl, j + 1, by rw [nI_add], by omega, rfl, ?_⟩⟩
    · rw [countP_succ hj2, hlf, decide_eq_false hne, hx27, nI_add]; rfl
    · rw [countP_succ hj2, hlf, decide_eq_true he, hx29, nI_add]; rfl
theorem cx_ofClass {G : GP} {y : HS} {X : Nat} {M : MS} {k w : Int32} {post : Int32 → HS → Prop} (h : XR G y X M) (hp : ∀ y', XR G y' X M → post (aOfClass (mE M) (mS M) k w) y') : wp_X1_ofClass G post y X k w := by
  have hXR := h
  obtain ⟨g, h⟩ := h
  have hE := h.2.2.2.1
  have l16 : (eCl (mE M)).length ≤ 16 := hE.2.2.2.2.2.2.2.2.2.1
  refine ⟨_, ⟨_, h.cx, rfl⟩, _, rfl, _, ⟨_, hE.1.1, rfl⟩, sp_within ⟨fun hb => ?_, fun hb => ?_⟩⟩
  · rw [aOfClass, show isSt (eCl (mE M)).length k = true from hb] at hp
    simp only [if_true] at hp
    obtain ⟨c, hc, rfl⟩ := (isSt_iff (by omega)).mp (show isSt (eCl (mE M)).length k = true from hb)
    refine ⟨fun e0 => ?_, fun e0 => ⟨fun e1 => ⟨h.rdX, cx_leavesOf h ?_⟩, fun e1 => ⟨fun e2 => ⟨h.rdX, cx_staysOf hXR (fun y' h' => ?_)⟩, fun e2 => ?_⟩⟩⟩
    · obtain ⟨c1, c2, c3, c4, gw, d1, d2⟩ := hE.1
      have hp' := hp y hXR
      rw [if_pos e0, ix, nI_clamp (by omega), List.getElem?_eq_getElem hc, Option.map_some, Option.getD_some] at hp'
      refine ⟨_, ⟨_, h.cx, rfl⟩, _, rfl, _, ⟨_, c1, rfl⟩, _, rfl, 16, gw, Or.inl d1, vp_inN (by omega) (by omega), ?_⟩
      rw [nI_clamp (by omega), d2 c hc]
      exact hp'
    · have hp' := hp y hXR
      rw [if_neg e0, if_pos e1] at hp'; exact hp'
    · have hp' := hp y' h'
      rw [if_neg e0, if_neg e1, if_pos e2] at hp'; exact hp'
    · have hp' := hp y hXR
      rw [if_neg e0, if_neg e1, if_neg e2] at hp'; exact hp'
  · have hp' := hp y hXR
    rw [aOfClass, show isSt (eCl (mE M)).length k = false from hb] at hp'
    exact hp'
