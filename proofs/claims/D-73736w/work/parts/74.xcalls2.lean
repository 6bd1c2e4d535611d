/-! The component's calls: bits of a way, bytes of the tape, stays -/
set_option maxRecDepth 100000
theorem bv_one64 (a : BitVec 64) : (a &&& 1#64) = if a.getLsbD 0 = true then 1#64 else 0#64 := by
  have h : ∀ b : BitVec 64, (a &&& 1#64) = b ↔ a.toNat % 2 = b.toNat := fun b => by
    rw [← BitVec.toNat_inj, BitVec.toNat_and]
    show a.toNat &&& 1 = _ ↔ _
    rw [Nat.and_one_is_mod]
  have hb : a.getLsbD 0 = decide (a.toNat % 2 = 1) := by
    show a.toNat.testBit 0 = _
    rw [Nat.testBit_zero]
  rw [h, hb]
  by_cases e : a.toNat % 2 = 1
  · rw [decide_eq_true e]; exact e
  · rw [decide_eq_false e]
    simp only [Bool.false_eq_true, if_false]
    show _ = 0
    omega
theorem bit64 (w : Int64) : ∀ i, i < 41 → ((w >>> ((nI i).toInt64 &&& 63)) &&& 1).toInt32 = bi (w.toBitVec.getLsbD i) := by
  intro i hi
  have h1 : ((nI i).toInt64 &&& 63).toBitVec.smod 64 = BitVec.ofNat 64 i := (by decide +kernel : ∀ i, i < 41 → ((nI i).toInt64 &&& 63).toBitVec.smod 64 = BitVec.ofNat 64 i) i hi
  have h2 : (BitVec.ofNat 64 i).toNat = i := (by decide +kernel : ∀ i, i < 41 → (BitVec.ofNat 64 i).toNat = i) i hi
  have h3 : ((w >>> ((nI i).toInt64 &&& 63)) &&& 1).toBitVec = (w.toBitVec.sshiftRight i) &&& 1#64 := by
    show (w >>> ((nI i).toInt64 &&& 63)).toBitVec &&& 1#64 = _
    rw [Int64.toBitVec_shiftRight, h1]
    show (w.toBitVec.sshiftRight (BitVec.ofNat 64 i).toNat) &&& 1#64 = _
    rw [h2]
  have h4 : (w.toBitVec.sshiftRight i).getLsbD 0 = w.toBitVec.getLsbD i := by
    rw [BitVec.getLsbD_sshiftRight]
    simp only [Nat.add_zero]
    rw [if_pos (by omega)]
    simp
  rw [bv_one64, h4] at h3
  cases hb : w.toBitVec.getLsbD i with
  | true =>
    rw [hb] at h3
    have : ((w >>> ((nI i).toInt64 &&& 63)) &&& 1) = 1 := Int64.toBitVec_inj.mp h3
    rw [this]; rfl
  | false =>
    rw [hb] at h3
    have : ((w >>> ((nI i).toInt64 &&& 63)) &&& 1) = 0 := Int64.toBitVec_inj.mp h3
    rw [this]; rfl
theorem sh64 : ∀ n, n < 41 → ∀ i, i < 41 → ((1 : Int64) <<< ((nI n).toInt64 &&& 63)).toBitVec.getLsbD i = decide (n = i) := by decide +kernel
theorem wv_bit : ∀ (n : Nat) (bs : List Bool), bs.length = n → n ≤ 40 → ∀ i, i < 41 → (wv bs).toBitVec.getLsbD i = bs.getD i false := by
  intro n
  induction n with
  | zero =>
    intro bs hl _ i _
    have e := List.length_eq_zero_iff.mp hl
    subst e
    show (0#64).getLsbD i = false
    simp
  | succ n ih =>
    intro bs hl hn i hi
    rcases List.eq_nil_or_concat bs with e | ⟨t, b, e⟩
    · rw [e] at hl; cases hl
    · rw [List.concat_eq_append] at e
      subst e
      rw [List.length_append, List.length_singleton] at hl
      have hln : t.length = n := by omega
      rw [wv_snoc, Int64.toBitVec_or, BitVec.getLsbD_or, ih t hln (by omega) i hi]
      rw [List.getD_eq_getElem?_getD, List.getD_eq_getElem?_getD]
      rcases Nat.lt_or_ge i t.length with z | z
      · rw [List.getElem?_append_left z, List.getElem?_eq_getElem z, Option.getD_some]
        cases b with
        | false => simp
        | true =>
          have := sh64 t.length (by omega) i hi
          simp only [if_true]
          rw [this, decide_eq_false (by omega), Bool.or_false]
      · rw [List.getElem?_append_right z, List.getElem?_eq_none z, Option.getD_none]
        by_cases e : i = t.length
        · subst e
          simp only [Nat.sub_self, List.getElem?_cons_zero, Option.getD_some]
          cases b with
          | false => simp
          | true =>
            have := sh64 t.length (by omega) t.length hi
            simp only [if_true]
            rw [this, decide_eq_true rfl]; rfl
        · have h2 : ([b] : List Bool)[i - t.length]? = none := List.getElem?_eq_none (by rw [List.length_singleton]; omega)
          rw [h2, Option.getD_none]
          cases b with
          | false => simp
          | true =>
            have := sh64 t.length (by omega) i hi
            simp only [if_true]
            rw [this, decide_eq_false (by omega)]; rfl
theorem EX.ways {G : GP} {y : HS} {D Dl : LM} {e : Nat} {E : Ed} {g : EG} (hE : EX G y D Dl e E g) (s : St) : (aWays E s).length ≤ 40 := by
  rw [aWays]
  cases hN : lkN E s with
  | none => exact Nat.zero_le _
  | some p =>
    obtain ⟨n, bs⟩ := p
    obtain ⟨h1, h2, h3, h4, h5, h6, h7, h8, h9, l16, l40, l400, l6⟩ := hE
    obtain ⟨x, e1, e2, e3, e4, e5⟩ := lk_some h9 l40 hN
    exact e4
theorem cx_way {G : GP} {y : HS} {X : Nat} {M : MS} {i j : Int32} {post : Int32 → HS → Prop} (h : XR G y X M) (hp : ∀ y', XR G y' X M → post (aWay (mE M) (mS M) i j) y') : wp_X1_way G post y X i j := by
  obtain ⟨g, h⟩ := h
  have hl : (mS M).length ≤ 24 := h.2.2.1.2.2.2.1
  refine ⟨h.rdX, sp_isStay h ?_⟩
  rcases isSt_or (n := (mS M).length) (by omega) i with e | ⟨k, hk, rfl⟩
  · rw [e]
    rw [aWay, gst_none e] at hp
    exact ⟨fun z => (by cases z), fun _ => hp y ⟨g, h⟩⟩
  · rw [isSt_at (by omega) hk]
    rw [aWay, gst_some (by omega) hk] at hp
    dsimp only at hp
    refine ⟨fun _ => ⟨h.rdX, sp_X1_looks h hk (fun y' hq h' u hs => ?_)⟩, fun z => (by cases z)⟩
    have hw := h'.2.2.2.1.ways (mS M)[k]
    have hp' := hp y' ⟨g, h'⟩
    refine ⟨_, ⟨_, h'.cx, rfl⟩, _, rfl, _, ⟨_, hs, rfl⟩, sp_within ⟨fun hb => ?_, fun hb => ⟨_, ⟨_, h'.cx, rfl⟩, _, rfl, _, ⟨_, hs, rfl⟩, ?_⟩⟩⟩
    · rw [show isSt (aWays (mE M) (mS M)[k]).length j = false from hb] at hp'
      exact hp'
    · rw [show isSt (aWays (mE M) (mS M)[k]).length j = true from hb] at hp'
      obtain ⟨r, hr, rfl⟩ := (isSt_iff (by omega)).mp (show isSt (aWays (mE M) (mS M)[k]).length j = true from hb)
      rw [bit64 _ r (by omega), wv_bit _ _ rfl hw r (by omega)]
      simp only [if_true, ix, nI_clamp (show r < 2 ^ 31 by omega)] at hp'
      exact hp'
theorem idx_mapO {xs : List Nat} {F : Nat → Option Nat} {n : Nat} (h : ∀ a ∈ xs, F a = F n → a = n) : (xs.map F).idxOf (F n) = xs.idxOf n := by
  induction xs with
  | nil => rfl
  | cons a t ih =>
    rw [List.map_cons, List.idxOf_cons, List.idxOf_cons, ih (fun b hb => h b (List.mem_cons_of_mem _ hb))]
    by_cases e : a = n
    · subst e; simp
    · have h2 : F a ≠ F n := fun z => e (h a List.mem_cons_self z)
      rw [beq_eq_false_iff_ne.mpr h2, beq_eq_false_iff_ne.mpr e]
theorem idx_mapI {xs : List Nat} {F : Nat → Int32} {n : Nat} (h : ∀ a ∈ xs, F a = F n → a = n) : (xs.map F).idxOf (F n) = xs.idxOf n := by
  induction xs with
  | nil => rfl
  | cons a t ih =>
    rw [List.map_cons, List.idxOf_cons, List.idxOf_cons, ih (fun b hb => h b (List.mem_cons_of_mem _ hb))]
    by_cases e : a = n
    · subst e; simp
    · have h2 : F a ≠ F n := fun z => e (h a List.mem_cons_self z)
      rw [beq_eq_false_iff_ne.mpr h2, beq_eq_false_iff_ne.mpr e]
theorem plc_map {xs : List Nat} {f : Nat → Nat} {n : Nat} (h1 : ∀ a ∈ xs, f a = f n → a = n) (h2 : ∀ a ∈ xs, a < 1000) (hn : n < 1000) : plc (xs.map (fun n => some (f n))) (some (f n)) = plcI (xs.map nI) (nI n) := by
  have e1 := idx_mapO (F := fun n => some (f n)) (n := n) (xs := xs) (fun a ha z => h1 a ha (Option.some.inj z))
  have e2 := idx_mapI (F := nI) (n := n) (xs := xs) (fun a ha z => (nI_eq (by have := h2 a ha; omega) (by omega)).mp z)
  have e1' : (xs.map (fun n => some (f n))).idxOf (some (f n)) = xs.idxOf n := e1
  rw [plc, plcI, e1', e2, List.length_map, List.length_map]
theorem plc_none {xs : List Nat} {f : Nat → Nat} : plc (xs.map (fun n => some (f n))) none = -1 := plc_no (fun j hj e => by rw [List.getElem_map] at e; cases e)
theorem lvs_mem {E : Ed} {n : Nat} (h : n ∈ lvs E) : n < (eNd E).length := by
  have h' : n ∈ lvP E (eCh E).length := h
  obtain ⟨c', h1, h2⟩ := List.mem_flatMap.mp h'
  exact List.mem_range.mp (List.mem_filter.mp h2).1
theorem cx_of {G : GP} {y : HS} {X : Nat} {M : MS} {i w : Int32} {post : Int32 → HS → Prop} (h : XR G y X M) (hp : ∀ y', XR G y' X M → post (aOf (mE M) (mS M) i w) y') : wp_X1_of G post y X i w := by
  obtain ⟨g, h⟩ := h
  have hl : (mS M).length ≤ 24 := h.2.2.1.2.2.2.1
  refine ⟨h.rdX, sp_isStay h ?_⟩
  rcases isSt_or (n := (mS M).length) (by omega) i with e | ⟨k, hk, rfl⟩
  · rw [e]
    rw [aOf, gst_none e] at hp
    exact ⟨fun z => (by cases z), fun _ => hp y ⟨g, h⟩⟩
  · rw [isSt_at (by omega) hk]
    rw [aOf, gst_some (by omega) hk] at hp
    dsimp only at hp
    refine ⟨fun _ => ⟨_, ⟨_, h.cx, rfl⟩, _, rfl, h.ls, sp_stayAt h hk (fun hq hst ho => ⟨hst.of, h.rdX, sp_X1_looks h hk (fun y' hq h' u hs => ?_)⟩)⟩, fun z => (by cases z)⟩
    have hp' := hp y' ⟨g, h'⟩
    obtain ⟨v', c', s', e', -⟩ := id h'
    obtain ⟨⟨g0, ⟨xs1, b1, b2⟩, ⟨xs2, d1, d2⟩, -⟩, -⟩ := s'.2.2.2.2.2 k hk hq
    obtain ⟨f1, hf1⟩ := v'.cell b1
    obtain ⟨f2, hf2⟩ := v'.cell d1
    refine ⟨fun e0 => ⟨_, rfl, _, ⟨_, g0, rfl⟩, ?_⟩, fun e0 => ⟨fun e1 => ⟨_, rfl, _, ⟨_, g0, rfl⟩, ?_⟩, fun e1 => ⟨fun e2 => ⟨_, rfl, _, ⟨_, g0, rfl⟩, ?_⟩, fun e2 => ⟨fun e3 => ⟨_, rfl, _, ⟨_, g0, rfl⟩, _, rfl, ⟨f1, Or.inl hf1⟩, v'.size b1 ?_⟩, fun e3 => ⟨fun e4 => ⟨_, rfl, _, ⟨_, g0, rfl⟩, _, rfl, ⟨f2, Or.inl hf2⟩, v'.size d1 ?_⟩, fun e4 => ⟨fun e5 => ⟨_, ⟨_, h'.cx, rfl⟩, _, rfl, _, ⟨_, hs, rfl⟩, ?_⟩, fun e5 => ⟨fun e6 => ⟨_, ⟨_, h'.cx, rfl⟩, _, rfl, _, ⟨_, hs, rfl⟩, ?_⟩, fun e6 => ⟨fun e7 => ⟨_, ⟨_, h'.cx, rfl⟩, _, rfl, _, ⟨_, hs, rfl⟩, ?_⟩, fun e7 => ⟨fun e8 => ⟨_, ⟨_, h'.cx, rfl⟩, _, rfl, ⟨_, Or.inl hs⟩, sp_cls e' hs ?_⟩, fun e8 => ⟨fun e9 => ⟨_, ⟨_, h'.cx, rfl⟩, _, rfl, ⟨_, Or.inl hs⟩, sp_weight e' hs ?_⟩, fun e9 => ⟨fun e10 => ⟨_, ⟨_, h'.cx, rfl⟩, _, rfl, _, ⟨_, hs, rfl⟩, ?_⟩, fun e10 => ⟨fun e11 => ⟨_, ⟨_, h'.cx, rfl⟩, _, rfl, _, ⟨_, e'.1.1, rfl⟩, _, ⟨_, h'.cx, rfl⟩, _, rfl, _, ⟨_, hs, rfl⟩, _, rfl, ?_, v'.indexOf (xDl_sub g _ _ e'.2.2.2.2.2.1) ?_ ?_⟩, fun e11 => ?_⟩⟩⟩⟩⟩⟩⟩⟩⟩⟩⟩⟩
    · rw [if_pos e0] at hp'; exact hp'
    · rw [if_neg e0, if_pos e1] at hp'; exact hp'
    · rw [if_neg e0, if_neg e1, if_pos e2] at hp'; exact hp'
    · rw [if_neg e0, if_neg e1, if_neg e2, if_pos e3] at hp'; rw [b2.len]; exact hp'
    · rw [if_neg e0, if_neg e1, if_neg e2, if_neg e3, if_pos e4] at hp'; rw [d2.len]; exact hp'
    · rw [if_neg e0, if_neg e1, if_neg e2, if_neg e3, if_neg e4, if_pos e5] at hp'; exact hp'
    · rw [if_neg e0, if_neg e1, if_neg e2, if_neg e3, if_neg e4, if_neg e5, if_pos e6] at hp'; exact hp'
    · rw [if_neg e0, if_neg e1, if_neg e2, if_neg e3, if_neg e4, if_neg e5, if_neg e6, if_pos e7] at hp'; exact hp'
    · rw [if_neg e0, if_neg e1, if_neg e2, if_neg e3, if_neg e4, if_neg e5, if_neg e6, if_neg e7, if_pos e8] at hp'; exact hp'
    · rw [if_neg e0, if_neg e1, if_neg e2, if_neg e3, if_neg e4, if_neg e5, if_neg e6, if_neg e7, if_neg e8, if_pos e9] at hp'; exact hp'
    · rw [if_neg e0, if_neg e1, if_neg e2, if_neg e3, if_neg e4, if_neg e5, if_neg e6, if_neg e7, if_neg e8, if_neg e9, if_pos e10] at hp'; exact hp'
    · obtain ⟨fl, hfl⟩ := v'.cell (xDl_sub g _ _ e'.2.2.2.2.2.1)
      exact ⟨fl, Or.inl hfl⟩
    · intro q9 hq9
      cases hN : lkN (mE M) (mS M)[k] with
      | none => rw [lkA, hN] at hq9; cases hq9
      | some p =>
        obtain ⟨x, z1, z2, -⟩ := e'.leaf hN
        rw [lkA, hN] at hq9
        cases hq9
        exact Or.inl ⟨_, Or.inl z2⟩
    · rw [if_neg e0, if_neg e1, if_neg e2, if_neg e3, if_neg e4, if_neg e5, if_neg e6, if_neg e7, if_neg e8, if_neg e9, if_neg e10, if_pos e11, aLeafNo] at hp'
      have l40 : (eNd (mE M)).length ≤ 40 := e'.2.2.2.2.2.2.2.2.2.2.1
      cases hN : lkN (mE M) (mS M)[k] with
      | none =>
        rw [hN] at hp'
        rw [lkA, hN, Option.map_none, plc_none]
        exact hp'
      | some p =>
        obtain ⟨x, z1, z2, z3, z4, z5⟩ := e'.leaf hN
        rw [hN] at hp'
        rw [lkA, hN, Option.map_some, plc_map (fun a ha z => e'.2.1.2.2 a p.1 (lvs_mem ha) z5 z) (fun a ha => by have := lvs_mem ha; omega) (by omega)]
        exact hp'
    · rw [if_neg e0, if_neg e1, if_neg e2, if_neg e3, if_neg e4, if_neg e5, if_neg e6, if_neg e7, if_neg e8, if_neg e9, if_neg e10, if_neg e11] at hp'; exact hp'
theorem cx_partner {G : GP} {y : HS} {X B : Nat} {M : MS} {i c w : Int32} {post : Int32 → HS → Prop} (hB : 1 ≤ B) (h : XR G y X M) (hp : ∀ y', XR G y' X M → post (aPartner (mE M) (mS M) i c w) y') : wp_X1_partner G B post y X i c w := by
  obtain ⟨g, h⟩ := h
  have hl : (mS M).length ≤ 24 := h.2.2.1.2.2.2.1
  refine ⟨h.rdX, sp_isStay h ?_⟩
  rcases isSt_or (n := (mS M).length) (by omega) i with e | ⟨k, hk, rfl⟩
  · rw [e]
    rw [aPartner, gst_none e] at hp
    exact ⟨fun _ => hp y ⟨g, h⟩, fun z => (by cases z)⟩
  · rw [isSt_at (by omega) hk]
    rw [aPartner, gst_some (by omega) hk] at hp
    dsimp only at hp
    refine ⟨fun z => (by cases z), fun _ => sp_within ⟨fun hb => ?_, fun hb => ⟨_, ⟨_, h.cx, rfl⟩, _, rfl, h.ls, sp_stayAt h hk (fun hq hst ho => ⟨hst.of, _, rfl, _, ⟨_, hst.1, rfl⟩, B, by omega, sp_valueOf h.1.1 (vcost_ok (Nat.le_trans (vcost_le c) hB)) (fun r y1 w1 w2 w3 w4 w5 w6 => ?_)⟩)⟩⟩⟩
    · have hp' := hp y ⟨g, h⟩
      rw [hb] at hp'; exact hp'
    · have v1 : V G y1 (xD g) := h.1.step w1 (fun b e hb _ => by rw [w5 b (h.1.1.lt hb)]; exact hb) w3
      have kf1 : KF y (xD g) y1 (xD g) := KF.step (fun b e hb _ => by rw [w5 b (h.1.1.lt hb)]; exact hb) (fun a xs hd => h.1.cell hd)
      have h1 := h.new v1 w2 kf1
      have hst1 := hst.kp (D' := xD g) w2 rfl rfl
      obtain ⟨g0, ⟨xs1, b1, b2⟩, -⟩ := id hst1
      obtain ⟨f1, hf1⟩ := v1.cell b1
      refine ⟨_, rfl, ⟨f1, Or.inl hf1⟩, v1.contains b1 b2 w6 ⟨fun hm => ⟨h1.rdX, sp_X1_looks h1 hk (fun y' hq h' u hs => ?_)⟩, fun hm => ?_⟩⟩
      · obtain ⟨v', c', s', e', -⟩ := id h'
        obtain ⟨hst', -⟩ := s'.2.2.2.2.2 k hk hq
        obtain ⟨-, -, ⟨xp, p1, p2⟩, -⟩ := id e'.1
        have p2' : All2 (ptR y' (xD g)) xp (ePt (mE M)) := All2.imp p2 (fun _ _ z => z.sub (xDl_sub g))
        have hp' := hp y' ⟨g, h'⟩
        rw [hb, hm] at hp'
        simp only [Bool.and_self, if_true] at hp'
        refine ⟨_, ⟨_, h'.cx, rfl⟩, _, rfl, ⟨_, Or.inl hs⟩, sp_partnerOf v' ⟨_, _, _, _, _, _, hs⟩ e'.eL (xDl_sub g _ _ p1) p2' ⟨fun hw => ⟨_, ⟨_, h'.cx, rfl⟩, _, rfl, ⟨_, Or.inl hs⟩, sp_countsP v' ⟨_, _, _, _, _, _, hs⟩ hst' e'.eL (xDl_sub g _ _ p1) p2' ?_⟩, fun hw => ?_⟩⟩
        · rw [if_neg hw] at hp'
          refine ⟨fun hb2 => ?_, fun hb2 => ?_⟩
          · rw [hb2] at hp'; exact hp'
          · rw [hb2] at hp'; exact hp'
        · rw [if_pos hw] at hp'; exact hp'
      · have hp' := hp y1 ⟨g, h1⟩
        rw [hm, Bool.and_false] at hp'
        exact hp'
