/-! The component's calls: a stay is altered, or new -/
set_option maxRecDepth 100000
theorem XRg.st {G : GP} {y y' : HS} {X k : Nat} {M : MS} {g : XG} {s : St} (h : XRg G y X M g) (hk : k < (mS M).length) (hq : k < (xSq g).length) (u : SU y y' (xSq g)[k]) (hs : y'.1 (xSq g)[k] = some (ob 17 [.int (sMain s), .int (sAge s), .int (sDays s), va_rf (some (xS1 g (xSq g)[k])), va_rf (some (xS2 g (xSq g)[k]))])) (e1 : sSecs s = sSecs (mS M)[k]) (e2 : sProcs s = sProcs (mS M)[k]) (ho : stOk s) : XRg G y' X (mE M, mK M, (mS M).set k s, mT M, mF M) g := by
  obtain ⟨h1, ⟨c1, c2, c3⟩, ⟨i1, i2, i3, i4, i5, i6⟩, h4, h5, ⟨v0, v1, c0, t0, k0, w0, lf0, wy0, h6⟩, ⟨v0', v1', c0', t0', k0', w0', lf0', wy0', h7⟩, h8⟩ := h
  obtain ⟨hst, o1, o2, -⟩ := i6 k hk hq
  have h0 := hst.1
  have hkb := u.kb h0 rfl
  have hkf := u.kf h1 h0 (by decide)
  have kc := fun c (hc : c ≠ 17) => u.kc (c2 := c) h0 hc
  refine ⟨u.v h1 h0 hs (by decide), ⟨kc 0 (by decide) _ _ c1, u.arr h0 c2, c3⟩, ⟨i1, i2, by rw [List.length_set]; exact i3, by rw [List.length_set]; exact i4, i5, fun j hj hj2 => ?_⟩, h4.kb hkb ((kc 1 (by decide) _ _ h4.1.1).trans h4.1.1.symm) hkf, h5.kb hkb (kc 1 (by decide)) hkf rfl, ⟨v0, v1, c0, t0, k0, w0, lf0, wy0, kc 2 (by decide) _ _ h6⟩, ⟨v0', v1', c0', t0', k0', w0', lf0', wy0', kc 2 (by decide) _ _ h7⟩, h8⟩
  rw [List.length_set] at hj
  rw [List.getElem_set]
  by_cases e : k = j
  · subst e
    rw [if_pos rfl]
    obtain ⟨-, ⟨xs1, a1, a2⟩, ⟨xs2, b1, b2⟩, r4, r5, r6⟩ := hst
    exact ⟨⟨hs, ⟨xs1, a1, by rw [e1]; exact a2.kb hkb⟩, ⟨xs2, b1, by rw [e2]; exact b2.kb hkb⟩, r4, by rw [e1]; exact r5, by rw [e2]; exact r6⟩, o1, o2, ho⟩
  · rw [if_neg e]
    obtain ⟨⟨z0, ⟨xs1, a1, a2⟩, ⟨xs2, b1, b2⟩, r⟩, z2, z3, z4⟩ := i6 j hj hj2
    have hsq : (xSq g)[j] ≠ (xSq g)[k] := fun z => e ((List.getElem_inj i5).mp z).symm
    exact ⟨⟨by rw [u.1 _ hsq]; exact z0, ⟨xs1, a1, a2.kb hkb⟩, ⟨xs2, b1, b2.kb hkb⟩, r⟩, z2, z3, z4⟩
theorem cx_alter {G : GP} {y : HS} {X B : Nat} {M : MS} {i w v : Int32} {post : Int32 → HS → Prop} (hB : 2 ≤ B) (h : XR G y X M) (hp : ∀ y', XR G y' X (mE M, mK M, (aAlter (mS M) i w v).2, mT M, mF M) → post (aAlter (mS M) i w v).1 y') : wp_X1_alter G B post y X i w v := by
  obtain ⟨g, h⟩ := h
  have hl : (mS M).length ≤ 24 := h.2.2.1.2.2.2.1
  have hvc := vcost_le v
  refine ⟨h.rdX, sp_isStay h ?_⟩
  rcases isSt_or (n := (mS M).length) (by omega) i with e | ⟨k, hk, rfl⟩
  · rw [e]
    rw [aAlter, gst_none e] at hp
    exact ⟨fun _ => hp y ⟨g, h⟩, fun z => (by cases z)⟩
  · rw [isSt_at (by omega) hk]
    rw [aAlter, gst_some (by omega) hk] at hp
    refine ⟨fun z => (by cases z), fun _ => isSoM_sp ⟨fun hso => ?_, fun hso => ?_⟩⟩
    · simp only [hso, if_true] at hp
      have hq : k < (xSq g).length := by rw [h.2.2.1.2.2.1]; exact hk
      obtain ⟨hst, oo1, oo2, ho⟩ := h.2.2.1.2.2.2.2.2 k hk hq
      have e01 : ¬ (nI 1 = nI 0) := by decide
      refine ⟨fun y10 u13 r11 x12 => y10 = y ∧ u13 = 0 ∧ r11 = some (xSq g)[k] ∧ x12 = (if w = nI 0 then sMain (mS M)[k] else if w = nI 1 then sAge (mS M)[k] else sDays (mS M)[k]), ?_, _, ⟨_, h.cx, rfl⟩, _, rfl, h.ls, sp_stayAt h hk (fun hq2 hst2 _ => ⟨hst2.of, fun hw0 => ⟨fun hw1 => ⟨_, rfl, _, ⟨_, hst2.1, rfl⟩, rfl, rfl, rfl, ?_⟩, fun hw1 => ⟨_, rfl, _, ⟨_, hst2.1, rfl⟩, rfl, rfl, rfl, ?_⟩⟩, fun hw0 => ⟨_, rfl, _, ⟨_, hst2.1, rfl⟩, rfl, rfl, rfl, ?_⟩⟩)⟩
      · rintro y10 u13 r11 x12 ⟨ey, rfl, rfl, rfl⟩
        subst ey
        refine ⟨Nat.zero_le _, fun hw0 => ⟨_, rfl, _, hst.1, by simp, fun y16 hy16 => ?_⟩, fun hw0 => ⟨fun hw1 => ⟨_, rfl, _, hst.1, by simp, fun y37 hy37 => ?_⟩, fun hw1 => ⟨_, rfl, _, hst.1, by simp, fun y40 hy40 => ?_⟩⟩⟩
        · rw [if_pos hw0] at hp ⊢
          have hdv : isD v = true := by
            unfold isSoM at hso
            rw [if_pos hw0] at hso
            exact hso
          have u16 : SU y10 y16 (xSq g)[k] := by rw [hy16]; exact SU.put
          have hs16 : y16.1 (xSq g)[k] = some (ob 17 [.int v, .int (sAge (mS M)[k]), .int (sDays (mS M)[k]), va_rf (some (xS1 g (xSq g)[k])), va_rf (some (xS2 g (xSq g)[k]))]) := by rw [hy16, hput_at]; rfl
          have o' : stOk (v, sAge (mS M)[k], sDays (mS M)[k], sSecs (mS M)[k], sProcs (mS M)[k]) := ⟨hdv, ho.2⟩
          have g16 := h.st (s := (v, sAge (mS M)[k], sDays (mS M)[k], sSecs (mS M)[k], sProcs (mS M)[k])) hk hq u16 hs16 rfl rfl o'
          have hkl : k < ((mS M).set k (v, sAge (mS M)[k], sDays (mS M)[k], sSecs (mS M)[k], sProcs (mS M)[k])).length := by rw [List.length_set]; exact hk
          refine ⟨_, ⟨_, hs16, rfl⟩, 1, by omega, sp_valueOf g16.1.1 (vcost_ok hvc) (fun r y1 w1 w2 w3 w4 w5 w6 => ?_)⟩
          have v1 : V G y1 (xD g) := g16.1.step w1 (fun b e hb _ => by rw [w5 b (g16.1.1.lt hb)]; exact hb) w3
          have g1 := g16.new v1 w2 (KF.step (fun b e hb _ => by rw [w5 b (g16.1.1.lt hb)]; exact hb) (fun a xs hd => g16.1.cell hd))
          obtain ⟨hst1, -, -, -⟩ := g1.2.2.1.2.2.2.2.2 k hkl hq
          rw [List.getElem_set_self] at hst1
          obtain ⟨z0, ⟨xs1, b1, b2⟩, -⟩ := id hst1
          obtain ⟨f1, hf1⟩ := v1.cell b1
          refine ⟨_, rfl, ⟨f1, Or.inl hf1⟩, v1.contains b1 b2 w6 ⟨fun hm => ?_, fun hm => ⟨_, ⟨_, z0, rfl⟩, 1, by omega, sp_valueOf v1.1 (vcost_ok hvc) (fun r2 y2 x1 x2 x3 x4 x5 x6 => ?_)⟩⟩⟩
          · have hm' := of_decide_eq_false hm
            rw [sMn, if_neg hm', ← set_upS (by omega)] at hp
            exact hp y1 ⟨_, g1⟩
          · have hm' := of_decide_eq_true hm
            rw [sMn, if_pos hm', ← set_upS (by omega)] at hp
            have v2 : V G y2 (xD g) := v1.step x1 (fun b e hb _ => by rw [x5 b (v1.1.lt hb)]; exact hb) x3
            have g2 := g1.new v2 x2 (KF.step (fun b e hb _ => by rw [x5 b (v1.1.lt hb)]; exact hb) (fun a xs hd => v1.cell hd))
            obtain ⟨hst2, -, -, -⟩ := g2.2.2.1.2.2.2.2.2 k hkl hq
            rw [List.getElem_set_self] at hst2
            obtain ⟨z2, ⟨xs2, d1, d2⟩, -⟩ := id hst2
            obtain ⟨f2, hf2⟩ := v2.cell d1
            refine ⟨_, rfl, ⟨f2, Or.inl hf2⟩, v2.remove d1 d2 x6 (fun hn => absurd hm' hn) (fun y3 _ hi3 v3 kp3 _ _ kf3 => ?_)⟩
            have hrow : sRow (v, sAge (mS M)[k], sDays (mS M)[k], sSecs (mS M)[k], sProcs (mS M)[k]) v = sSecs (mS M)[k] := by rw [sRow, hdv]; rfl
            have hl2 : lst2 v (xS1 g (xSq g)[k]) (xS2 g (xSq g)[k]) = xS1 g (xSq g)[k] := by rw [lst2, hdv]; rfl
            have hst3 := stR.upd (c := v) (vs := (sSecs (mS M)[k]).eraseIdx ((sSecs (mS M)[k]).idxOf v)) hst2 kp3 (All2.del (d2.kp kp3) hi3) (by rw [hdv]; exact Nat.le_trans (List.eraseIdx_sublist _ _).length_le ho.2.2.2.2.2.1)
            rw [← hl2] at v3 kf3
            have hdel : sSet (v, sAge (mS M)[k], sDays (mS M)[k], sSecs (mS M)[k], sProcs (mS M)[k]) v ((sSecs (mS M)[k]).eraseIdx ((sSecs (mS M)[k]).idxOf v)) = sDel (v, sAge (mS M)[k], sDays (mS M)[k], sSecs (mS M)[k], sProcs (mS M)[k]) v := by rw [sDel, hrow]
            rw [hdel] at hst3
            have g3 := g2.upd hkl hq v3 kp3 kf3 hst3 (stOk_del o')
            rw [List.set_set] at g3
            exact hp y3 ⟨_, g3⟩
        · rw [if_neg hw0, if_pos hw1, ← set_upS (by omega)] at hp
          rw [if_neg hw0, if_pos hw1]
          have u37 : SU y10 y37 (xSq g)[k] := by rw [hy37]; exact SU.put
          exact hp y37 ⟨g, h.st (s := (sMain (mS M)[k], v, sDays (mS M)[k], sSecs (mS M)[k], sProcs (mS M)[k])) hk hq u37 (by rw [hy37, hput_at]; rfl) rfl rfl ho⟩
        · rw [if_neg hw0, if_neg hw1, ← set_upS (by omega)] at hp
          rw [if_neg hw0, if_neg hw1]
          have u40 : SU y10 y40 (xSq g)[k] := by rw [hy40]; exact SU.put
          exact hp y40 ⟨g, h.st (s := (sMain (mS M)[k], sAge (mS M)[k], v, sSecs (mS M)[k], sProcs (mS M)[k])) hk hq u40 (by rw [hy40, hput_at]; rfl) rfl rfl ho⟩
      · rw [if_neg (by rw [nI_0]; exact hw0), if_neg hw1]
      · rw [hw1, if_neg e01, if_pos rfl]
      · rw [if_pos (by rw [nI_0]; exact hw0)]
    · simp only [hso, Bool.false_eq_true, if_false] at hp
      exact hp y ⟨g, h⟩
/-- a new cell changes no list -/
theorem KF.new {G : GP} {y : HS} {D : LM} {e : HE} (hv : V G y D) : KF y D (hnew y e) D := KF.step (fun b e' hb _ => by rw [hnew_ne (Nat.ne_of_lt (hv.1.lt hb))]; exact hb) (fun a xs hd => hv.cell hd)
theorem KF.put {G : GP} {y : HS} {D : LM} {a c : Nat} {fs : List Value} {e : HE} (hv : V G y D) (ha : y.1 a = some (ob c fs)) (hc : c ≠ 18) : KF y D (hput y a e) D := SU.kf (SU.put) hv ha hc
/-- old cells are as they were -/
def Ag (n : Nat) (y y' : HS) : Prop := ∀ b, b < n → y'.1 b = y.1 b
theorem Ag.tr {n : Nat} {a b c : HS} (h : Ag n a b) (k : Ag n b c) : Ag n a c := fun x hx => (k x hx).trans (h x hx)
theorem gco_24 {n : Nat} (h : n < 24) : gco n ≤ 3 := by
  unfold gco
  split
  · omega
  · split
    · omega
    · omega
theorem De.no {O : Nat → Nat × Nat} {D : LM} {l : Nat} (h : O l ≠ (0, 0)) : De O D l = none := if_neg h
theorem De.none {O : Nat → Nat × Nat} {D : LM} {l : Nat} (h : D l = Option.none) : De O D l = Option.none := by
  unfold De
  rw [h, ite_self]
theorem De.eq {O O' : Nat → Nat × Nat} {D D' : LM} {l : Nat} (h1 : O' l = O l) (h2 : D' l = D l) : De O' D' l = De O D l := by
  by_cases e : O l = (0, 0)
  · rw [De.at e, De.at (h1.trans e), h2]
  · rw [De.no e, De.no (fun z => e (h1.symm.trans z))]
theorem cx_stay {G : GP} {y : HS} {X B : Nat} {M : MS} {m a d : Int32} {post : Int32 → HS → Prop} (hB : 6 ≤ B) (h : XR G y X M) (hp : ∀ y', XR G y' X (mE M, mK M, (aStay (mS M) m a d).2, mT M, mF M) → post (aStay (mS M) m a d).1 y') : wp_X1_stay G B post y X m a d := by
  obtain ⟨g, h⟩ := h
  obtain ⟨v, -, ⟨i1, i2, i3, i4, i5, i6⟩, -⟩ := id h
  have no : (isD m && wthn a 0 120 && wthn d 1 400 && !(decide ((mS M).length = 24))) = false → post (-1) y := fun e => by
    rw [aStay, e] at hp
    exact hp y ⟨g, h⟩
  have s0 : isSoM (nI 0) m = isD m := rfl
  have s1 : isSoM (nI 1) a = wthn a 0 120 := rfl
  have s2 : isSoM (nI 2) d = wthn d 1 400 := rfl
  refine isSoM_sp ⟨fun hb => no ?_, fun hb1 => isSoM_sp ⟨fun hb => no ?_, fun hb2 => isSoM_sp ⟨fun hb => no ?_, fun hb3 => ⟨_, ⟨_, h.cx, rfl⟩, _, rfl, h.ls, v.size i1 ?_⟩⟩⟩⟩
  · rw [s0] at hb; rw [hb]; rfl
  · rw [s1] at hb; rw [hb, Bool.and_false]; rfl
  · rw [s2] at hb; rw [hb, Bool.and_false]; rfl
  · rw [s0] at hb1
    rw [s1] at hb2
    rw [s2] at hb3
    rw [List.length_map, i3]
    refine ⟨fun hne => ?_, fun he => no ?_⟩
    · have hl : (mS M).length < 24 := by
        rcases Nat.lt_or_ge (mS M).length 24 with z | z
        · exact z
        · exact absurd (by rw [show (mS M).length = 24 by omega]) hne
      have eC : (isD m && wthn a 0 120 && wthn d 1 400 && !(decide ((mS M).length = 24))) = true := by
        rw [hb1, hb2, hb3, decide_eq_false (by omega)]; rfl
      rw [aStay, if_pos eC] at hp
      refine ⟨by omega, fun q hq y1 hy1 => ⟨2, by omega, by omega, fun a2 ha2 y2 hy2 => ?_⟩⟩
      have hlt : ∀ l xs, xD g l = some xs → l < y.2 := fun l xs z => v.lt z
      have v1 : V G y1 (xD g) := by rw [hy1]; exact v.new
      have kf1 : KF y (xD g) y1 (xD g) := by rw [hy1]; exact KF.new v
      have c1 : y1.1 q = some (ob 17 [.int 0, .int 0, .int 0, va_rf none, va_rf none]) := by rw [hy1, hq, hnew_at]
      have n1 : y1.2 = y.2 + 1 := by rw [hy1, hnew_2]
      have A1 : Ag y.2 y y1 := fun b hb => by rw [hy1, hnew_ne (Nat.ne_of_lt hb)]
      have v2 : V G y2 (xD g) := by rw [hy2]; exact v1.new
      have kf2 : KF y (xD g) y2 (xD g) := kf1.tr (by rw [hy2]; exact KF.new v1)
      have c2 : y2.1 q = some (ob 17 [.int 0, .int 0, .int 0, va_rf none, va_rf none]) := by rw [hy2, hnew_ne (by omega)]; exact c1
      have n2 : y2.2 = y.2 + 2 := by rw [hy2, hnew_2, n1]
      have A2 : Ag y.2 y y2 := A1.tr (fun b hb => by rw [hy2, hnew_ne (by omega)])
      have hn2 : xD g a2 = none := by
        cases z : xD g a2 with
        | none => rfl
        | some xs => have := hlt a2 xs z; omega
      refine v2.init hn2 (by rw [hy2, ha2, hnew_at]) (fun y3 v3 o3 z3 kp3 _ kf3 => ?_)
      have c3 : y3.1 q = some (ob 17 [.int 0, .int 0, .int 0, va_rf none, va_rf none]) := by rw [o3 q (by omega)]; exact c2
      have A3 : Ag y.2 y y3 := A2.tr (fun b hb => o3 b (by omega))
      refine ⟨_, c3, by simp, fun y4 hy4 => ⟨by omega, fun a7 ha7 y6 hy6 => ?_⟩⟩
      have v4 : V G y4 (va_up (xD g) a2 (some [])) := by rw [hy4]; exact v3.put c3 (by decide)
      have kf4 : KF y (xD g) y4 (va_up (xD g) a2 (some [])) := kf2.tr (kf3.tr (by rw [hy4]; exact KF.put v3 c3 (by decide)))
      have c4 : y4.1 q = some (ob 17 [.int 0, .int 0, .int 0, va_rf (some a2), va_rf none]) := by rw [hy4, hput_at]; rfl
      have n4 : y4.2 = y.2 + 2 := by rw [hy4, hput_2, z3, n2]
      have A4 : Ag y.2 y y4 := A3.tr (fun b hb => by rw [hy4, hput_ne (by omega)])
      have v6 : V G y6 (va_up (xD g) a2 (some [])) := by rw [hy6]; exact v4.new
      have kf6 : KF y (xD g) y6 (va_up (xD g) a2 (some [])) := kf4.tr (by rw [hy6]; exact KF.new v4)
      have c6 : y6.1 q = some (ob 17 [.int 0, .int 0, .int 0, va_rf (some a2), va_rf none]) := by rw [hy6, hnew_ne (by omega)]; exact c4
      have n6 : y6.2 = y.2 + 3 := by rw [hy6, hnew_2, n4]
      have A6 : Ag y.2 y y6 := A4.tr (fun b hb => by rw [hy6, hnew_ne (by omega)])
      have hn7 : va_up (xD g) a2 (some []) a7 = none := by
        unfold va_up
        rw [if_neg (by omega)]
        cases z : xD g a7 with
        | none => rfl
        | some xs => have := hlt a7 xs z; omega
      refine v6.init hn7 (by rw [hy6, ha7, hnew_at]) (fun y8 v8 o8 z8 kp8 _ kf8 => ?_)
      have c8 : y8.1 q = some (ob 17 [.int 0, .int 0, .int 0, va_rf (some a2), va_rf none]) := by rw [o8 q (by omega)]; exact c6
      have A8 : Ag y.2 y y8 := A6.tr (fun b hb => o8 b (by omega))
      refine ⟨_, c8, by simp, fun y9 hy9 => ?_⟩
      have u9 : SU y8 y9 q := by rw [hy9]; exact SU.put
      have c9 : y9.1 q = some (ob 17 [.int 0, .int 0, .int 0, va_rf (some a2), va_rf (some a7)]) := by rw [hy9, hput_at]; rfl
      refine ⟨_, c9, by simp, fun y20 hy20 => ?_⟩
      have u20 : SU y8 y20 q := u9.tr (by rw [hy20]; exact SU.put)
      have c20 : y20.1 q = some (ob 17 [.int m, .int 0, .int 0, va_rf (some a2), va_rf (some a7)]) := by rw [hy20, hput_at]; rfl
      refine ⟨_, c20, by simp, fun y22 hy22 => ?_⟩
      have u22 : SU y8 y22 q := u20.tr (by rw [hy22]; exact SU.put)
      have c22 : y22.1 q = some (ob 17 [.int m, .int a, .int 0, va_rf (some a2), va_rf (some a7)]) := by rw [hy22, hput_at]; rfl
      refine ⟨_, c22, by simp, fun y24 hy24 => ?_⟩
      have u24 : SU y8 y24 q := u22.tr (by rw [hy24]; exact SU.put)
      have c24 : y24.1 q = some (ob 17 [.int m, .int a, .int d, va_rf (some a2), va_rf (some a7)]) := by rw [hy24, hput_at]; rfl
      have v24 := u24.v v8 c8 c24 (by decide)
      have kf24 : KF y (xD g) y24 (va_up (va_up (xD g) a2 (some [])) a7 (some [])) := kf6.tr (kf8.tr (u24.kf v8 c8 (by decide)))
      have A24 : Ag y.2 y y24 := A8.tr (fun b hb => u24.1 b (by omega))
      have kp24 : Kp y y24 := fun b e hb _ => by rw [A24 b (v.1.lt hb)]; exact hb
      have hls : xLs g < y.2 := hlt _ _ i1
      have d24 : va_up (va_up (xD g) a2 (some [])) a7 (some []) (xLs g) = some ((xSq g).map some) := by
        unfold va_up
        rw [if_neg (by omega), if_neg (by omega)]; exact i1
      obtain ⟨fl, hfl⟩ := v24.cell d24
      have hX24 : y24.1 X = some (ob 0 [va_rf (some (xTp g)), .int (nI (mT M).length), .int (mF M), va_rf (some (xLs g)), va_rf (some (xE g)), va_rf (xKq g), va_rf (some (xSn g)), va_rf (some (xOt g))]) := kp24 _ _ h.cx rfl
      refine ⟨_, ⟨_, hX24, rfl⟩, _, rfl, ⟨fl, Or.inl hfl⟩, 3, by omega, v24.add d24 (by rw [List.length_map, i3]; omega) (fun w hw => by cases hw; exact ⟨17, _, by decide, Or.inl c24⟩) (by rw [List.length_map, i3]; exact gco_24 hl) (fun y28 v28 kp28 _ _ kf28 => ?_)⟩
      have kpA := kp24.tr kp28
      have hqs : ∀ k (h2 : k < (xSq g).length), (xSq g)[k] < y.2 := fun k h2 => v.1.lt (i6 k (by omega) h2).1.1
      have hOne : ∀ l, l < y.2 → (if l = a2 then (2, q) else if l = a7 then (3, q) else xO g l) = xO g l := fun l hl2 => by rw [if_neg (by omega), if_neg (by omega)]
      have hD9 : ∀ l, l < y.2 → l ≠ xLs g → va_up (va_up (va_up (xD g) a2 (some [])) a7 (some [])) (xLs g) (some ((xSq g).map some ++ [some q])) l = xD g l := fun l hl2 hne2 => by
        unfold va_up
        rw [if_neg hne2, if_neg (by omega), if_neg (by omega)]
      have hX := h.kp3 (O' := fun l => if l = a2 then (2, q) else if l = a7 then (3, q) else xO g l) (sq := xSq g ++ [q]) (s1 := fun x => if x = q then a2 else xS1 g x) (s2 := fun x => if x = q then a7 else xS2 g x) (ss := mS M ++ [(m, a, d, [], [])]) v28 kpA (kf24.tr kf28) ?_ ?_
      · have hX28 := hX.cx
        have dls := hX.2.2.1.1
        obtain ⟨fs9, hfs9⟩ := v28.cell dls
        refine ⟨_, ⟨_, hX28, rfl⟩, _, rfl, ⟨fs9, Or.inl hfs9⟩, v28.size dls ?_⟩
        rw [List.length_map, List.length_append, List.length_singleton, i3, nI_sub (by omega), Nat.add_sub_cancel]
        exact hp y28 ⟨_, hX⟩
      · funext l
        have hfr : ∀ l, y.2 ≤ l → xD g l = none := fun l hl2 => by
          cases z : xD g l with
          | none => rfl
          | some xs => have := hlt l xs z; omega
        by_cases e1 : l = a2
        · rw [De.no (show (if l = a2 then (2, q) else if l = a7 then (3, q) else xO g l) ≠ (0, 0) by rw [if_pos e1]; simp)]; exact (De.none (hfr l (by omega))).symm
        · by_cases e2 : l = a7
          · rw [De.no (show (if l = a2 then (2, q) else if l = a7 then (3, q) else xO g l) ≠ (0, 0) by rw [if_neg e1, if_pos e2]; simp)]; exact (De.none (hfr l (by omega))).symm
          · have hO : (if l = a2 then (2, q) else if l = a7 then (3, q) else xO g l) = xO g l := by rw [if_neg e1, if_neg e2]
            by_cases e3 : l = xLs g
            · rw [De.no (show (if l = a2 then (2, q) else if l = a7 then (3, q) else xO g l) ≠ (0, 0) by rw [hO, e3, i2]; simp)]; exact (De.no (show xO g l ≠ (0, 0) by rw [e3, i2]; simp)).symm
            · exact De.eq hO (by unfold va_up; rw [if_neg e3, if_neg e2, if_neg e1])
      · refine ⟨by unfold va_up; rw [if_pos rfl, List.map_append]; rfl, (hOne _ hls).trans i2, by rw [List.length_append, List.length_append, i3]; rfl, by rw [List.length_append, List.length_singleton]; omega, ?_, fun k hk hk2 => ?_⟩
        · refine List.nodup_append.mpr ⟨i5, List.nodup_cons.mpr ⟨List.not_mem_nil, List.nodup_nil⟩, fun x hx z hz => ?_⟩
          rw [List.mem_singleton.mp hz]
          obtain ⟨k, hk, e⟩ := List.getElem_of_mem hx
          have := hqs k hk
          rw [← e]; omega
        · rw [List.length_append, List.length_singleton] at hk hk2
          by_cases e : k = (mS M).length
          · subst e
            have e1 : (mS M ++ [(m, a, d, [], [])])[(mS M).length]'(by rw [List.length_append, List.length_singleton]; omega) = (m, a, d, [], []) := by
              rw [List.getElem_append_right (Nat.le_refl _)]; simp
            have e2 : (xSq g ++ [q])[(mS M).length]'(by rw [List.length_append, List.length_singleton]; omega) = q := by
              rw [List.getElem_append_right (by omega)]; simp [i3]
            rw [e1, e2]
            dsimp only
            rw [if_pos rfl, if_pos rfl, if_pos rfl, if_neg (by omega), if_pos rfl]
            refine ⟨⟨kp28 _ _ c24 rfl, ⟨[], ?_, All2.nil⟩, ⟨[], ?_, All2.nil⟩, by omega, Nat.zero_le _, Nat.zero_le _⟩, rfl, rfl, hb1, List.Pairwise.nil, List.Pairwise.nil, fun _ z => (by cases z), fun _ z => (by cases z), Nat.zero_le _, Nat.zero_le _⟩
            · unfold va_up
              rw [if_neg (by omega), if_neg (by omega), if_pos rfl]
            · unfold va_up
              rw [if_neg (by omega), if_pos rfl]
          · have hkm : k < (mS M).length := by omega
            have hkq : k < (xSq g).length := by omega
            have e1 : (mS M ++ [(m, a, d, [], [])])[k]'(by rw [List.length_append, List.length_singleton]; omega) = (mS M)[k] := List.getElem_append_left hkm
            have e2 : (xSq g ++ [q])[k]'(by rw [List.length_append, List.length_singleton]; omega) = (xSq g)[k] := List.getElem_append_left hkq
            rw [e1, e2]
            obtain ⟨b1, b2, b3, b4⟩ := i6 k hkm hkq
            have hqk := hqs k hkq
            have hne : (xSq g)[k] ≠ q := by omega
            obtain ⟨z0, ⟨xs1, p1, p2⟩, ⟨xs2, r1, r2⟩, -⟩ := id b1
            have l1 := hlt _ _ p1
            have l2 := hlt _ _ r1
            have t1 : xS1 g (xSq g)[k] ≠ xLs g := fun z => by rw [z, i2] at b2; simp at b2
            have t2 : xS2 g (xSq g)[k] ≠ xLs g := fun z => by rw [z, i2] at b3; simp at b3
            dsimp only
            rw [if_neg hne, if_neg hne]
            refine ⟨b1.kp kpA (hD9 _ l1 t1) (hD9 _ l2 t2), ?_, ?_, b4⟩
            · rw [hOne _ l1]; exact b2
            · rw [hOne _ l2]; exact b3
    · have := (nI_eq (by omega) (by omega)).mp he
      rw [decide_eq_true this]
      simp
