/-! The component's calls: what they answer -/
set_option maxRecDepth 100000
theorem V.grow {G : GP} {f : Nat → Option HE} {n n' : Nat} {D : LM} (h : V G (f, n) D) (hn : n ≤ n') : V G (f, n') D := by
  obtain ⟨⟨w1, w2, w3⟩, A, C, h1, h2⟩ := h
  exact ⟨⟨fun a e he => ⟨Nat.lt_of_lt_of_le (w1 a e he).1 hn, (w1 a e he).2⟩, w2, Nat.le_trans w3 hn⟩, A, C, h1, h2⟩
theorem XRg.grow {G : GP} {y y' : HS} {X : Nat} {M : MS} {g : XG} (h : XRg G y X M g) (h1 : y'.1 = y.1) (h2 : y.2 ≤ y'.2) : XRg G y' X M g := by
  obtain ⟨f, n⟩ := y
  obtain ⟨f', n'⟩ := y'
  dsimp only at h1 h2
  subst h1
  obtain ⟨a1, a2, a3, a4, a5, a6, a7, a8⟩ := h
  exact ⟨a1.grow h2, a2, a3, a4, a5, a6, a7, a8⟩
/-- X's own cell alone is another -/
theorem XRg.sx {G : GP} {y y' : HS} {X : Nat} {M : MS} {g : XG} (h : XRg G y X M g) (u : SU y y' X) (hX : ∃ fs, y'.1 X = some (ob 0 fs)) : V G y' (xD g) ∧ XS G y' (xD g) (xO g) (xLs g) (xSq g) (xS1 g) (xS2 g) (mS M) ∧ EX G y' (xD g) (xDl g) (xE g) (mE M) (xEg g) ∧ XKp G y' (xD g) (xO g) (xKq g) (mK M) ∧ seenC y' (xSn g) ∧ seenC y' (xOt g) ∧ y'.1 (xTp g) = some (ai 3 936 (xGt g)) := by
  obtain ⟨fs', hX⟩ := hX
  obtain ⟨h1, ⟨c1, c2, c3⟩, h3, h4, h5, ⟨v0, v1, c0, t0, k0, w0, lf0, wy0, h6⟩, ⟨v0', v1', c0', t0', k0', w0', lf0', wy0', h7⟩, h8⟩ := h
  have hk := u.kb c1 rfl
  have hkf := u.kf h1 c1 (by decide)
  have kc := fun c (hc : c ≠ 0) => u.kc (c2 := c) c1 hc
  exact ⟨u.v h1 c1 hX (by decide), h3.kb hk (kc 17 (by decide)), h4.kb hk ((kc 1 (by decide) _ _ h4.1.1).trans h4.1.1.symm) hkf, h5.kb hk (kc 1 (by decide)) hkf rfl, ⟨v0, v1, c0, t0, k0, w0, lf0, wy0, kc 2 (by decide) _ _ h6⟩, ⟨v0', v1', c0', t0', k0', w0', lf0', wy0', kc 2 (by decide) _ _ h7⟩, u.arr c1 c2⟩
theorem cx_faultLine {G : GP} {y : HS} {X : Nat} {M : MS} {post : Int32 → HS → Prop} (h : XR G y X M) (hp : ∀ y', XR G y' X M → post (mF M) y') : wp_X1_faultLine G post y X := by
  obtain ⟨g, h⟩ := h
  exact ⟨_, ⟨_, h.cx, rfl⟩, hp y ⟨g, h⟩⟩
theorem cx_end {G : GP} {y : HS} {X : Nat} {M : MS} {n : Int32} {post : Int32 → HS → Prop} (h : XR G y X M) (hp : ∀ y', XR G y' X (mE M, mK M, mS M, (aEnd (mT M) n).2, mF M) → post (aEnd (mT M) n).1 y') : wp_X1_end G post y X n := by
  obtain ⟨g, h⟩ := h
  obtain ⟨-, ⟨c1, c2, c3, c4, c5⟩, -⟩ := id h
  refine ⟨_, ⟨_, h.cx, rfl⟩, sp_within ⟨fun hb => ⟨_, h.cx, by simp, fun y5 hy5 => ?_⟩, fun hb => ?_⟩⟩
  · rw [aEnd, hb] at hp
    simp only [if_true] at hp
    have hb' := wthn_iff.mp hb
    rw [nI_toInt (by omega), nI_toInt (by omega)] at hb'
    have hn0 : ¬ n < 0 := fun z => by
      have h1 := Int32.lt_iff_toInt_lt.mp z
      have h0 : (0 : Int32).toInt = 0 := by decide
      rw [h0] at h1
      have : ((0 : Nat) : Int) = 0 := rfl
      omega
    obtain ⟨j, hj, rfl⟩ := nI_of hn0
    rw [nI_toInt hj] at hb'
    have hjl : j ≤ (mT M).length := by omega
    rw [ix, nI_clamp hj] at hp
    have u : SU y y5 X := by rw [hy5]; exact SU.put
    have hX : y5.1 X = some (ob 0 [va_rf (some (xTp g)), .int (nI j), .int (mF M), va_rf (some (xLs g)), va_rf (some (xE g)), va_rf (xKq g), va_rf (some (xSn g)), va_rf (some (xOt g))]) := by rw [hy5, hput_at]; rfl
    obtain ⟨a1, a2, a3, a4, a5, a6, a7⟩ := h.sx u ⟨_, hX⟩
    refine hp y5 ⟨g, a1, ⟨?_, a7, ?_, fun b hb2 => c4 b (List.mem_of_mem_take hb2), fun i hi => ?_⟩, a2, a3, a4, a5, a6, h.2.2.2.2.2.2.2⟩
    · rw [hX, List.length_take, Nat.min_eq_left hjl]
    · rw [List.length_take]; omega
    · rw [List.length_take] at hi
      rw [List.getElem_take]
      exact c5 i (by omega)
  · rw [aEnd, hb] at hp
    exact hp y ⟨g, h⟩
theorem bv255 : ∀ i, i < 32 → (255#32).getLsbD i = decide (i < 8) := by decide
theorem byte255 (x : Int32) : (vp_nar .byte (x.toInt8.toInt32)) &&& nI 255 = x &&& nI 255 := by
  have h1 : vp_nar .byte (x.toInt8.toInt32) = x.toInt8.toInt32 := by
    show (x.toInt8.toInt32).toInt8.toInt32 = x.toInt8.toInt32
    rw [Int8.toInt8_toInt32]
  rw [h1]
  apply Int32.toBitVec_inj.mp
  show (x.toBitVec.signExtend 8).signExtend 32 &&& 255#32 = x.toBitVec &&& 255#32
  apply BitVec.eq_of_getLsbD_eq
  intro i hi
  rw [BitVec.getLsbD_and, BitVec.getLsbD_and, bv255 i hi]
  by_cases h8 : i < 8
  · rw [BitVec.getLsbD_signExtend, BitVec.getLsbD_signExtend]
    simp [h8, hi]
  · simp [h8]
theorem XKp.kb2 {G : GP} {y y' : HS} {D D' : LM} {O O' : Nat → Nat × Nat} {kq : Option Nat} {K : Option Ed} (h : XKp G y D O kq K) (k : Kb y y') (hc : Kc y y' 1) (kf : KF y D y' D') (hD : De O' D' = De O D) : XKp G y' D' O' kq K := by
  rcases h with h | ⟨K', e2, g2, h1, h2, h3⟩
  · exact Or.inl h
  · refine Or.inr ⟨K', e2, g2, h1, h2, ?_⟩
    rw [hD]
    exact h3.kb k ((hc _ _ h3.1.1).trans h3.1.1.symm) kf
theorem XRg.kp3 {G : GP} {y y' : HS} {X : Nat} {M : MS} {g : XG} {D' : LM} {O' : Nat → Nat × Nat} {sq : List Nat} {s1 s2 : Nat → Nat} {ss : List St} (h : XRg G y X M g) (hv : V G y' D') (k : Kp y y') (kf : KF y (xD g) y' D') (hD : De O' D' = xDl g) (hS : XS G y' D' O' (xLs g) sq s1 s2 ss) : XRg G y' X (mE M, mK M, ss, mT M, mF M) (D', O', g.2.2.1, g.2.2.2.1, g.2.2.2.2.1, (sq, s1, s2), xGt g) := by
  obtain ⟨h1, ⟨c1, c2, c3⟩, h3, h4, h5, ⟨v0, v1, c0, t0, k0, w0, lf0, wy0, h6⟩, ⟨v0', v1', c0', t0', k0', w0', lf0', wy0', h7⟩, h8⟩ := h
  refine ⟨hv, ⟨k _ _ c1 rfl, k _ _ c2 rfl, c3⟩, hS, ?_, h5.kb2 k.kb (fun b fs z => k _ _ z rfl) kf hD, ⟨v0, v1, c0, t0, k0, w0, lf0, wy0, k _ _ h6 rfl⟩, ⟨v0', v1', c0', t0', k0', w0', lf0', wy0', k _ _ h7 rfl⟩, h8⟩
  show EX G y' D' (De O' D') (xE g) (mE M) (xEg g)
  rw [hD]
  exact h4.kb k.kb ((k _ _ h4.1.1 rfl).trans h4.1.1.symm) kf
theorem cx_keep {G : GP} {y : HS} {X : Nat} {M : MS} {post : Int32 → HS → Prop} (h : XR G y X M) (hp : ∀ y', XR G y' X (mE M, some (mE M), mS M, mT M, mF M) → post (nI (eCl (mE M)).length) y') : wp_X1_keep G post y X := by
  obtain ⟨g, h⟩ := h
  obtain ⟨-, ⟨c1, c2, c3⟩, -⟩ := id h
  refine ⟨_, ⟨_, h.cx, rfl⟩, _, h.cx, by simp, fun y2 hy2 => ?_⟩
  have u : SU y y2 X := by rw [hy2]; exact SU.put
  have hX : y2.1 X = some (ob 0 [va_rf (some (xTp g)), .int (nI (mT M).length), .int (mF M), va_rf (some (xLs g)), va_rf (some (xE g)), va_rf (some (xE g)), va_rf (some (xSn g)), va_rf (some (xOt g))]) := by rw [hy2, hput_at]; rfl
  obtain ⟨a1, a2, a3, a4, a5, a6, a7⟩ := h.sx u ⟨_, hX⟩
  refine ⟨_, ⟨_, hX, rfl⟩, _, rfl, _, ⟨_, a3.1.1, rfl⟩, hp y2 ⟨(g.1, g.2.1, g.2.2.1, g.2.2.2.1, some (xE g), g.2.2.2.2.2), a1, ⟨hX, a7, c3⟩, a2, a3, Or.inr ⟨_, _, _, rfl, rfl, a3⟩, a5, a6, h.2.2.2.2.2.2.2⟩⟩
theorem cx_swap {G : GP} {y : HS} {X : Nat} {M : MS} {post : Bool → HS → Prop} (h : XR G y X M) (h0 : mK M = none → ∀ y', XR G y' X M → post false y') (h1 : ∀ K y', mK M = some K → XR G y' X (K, some (mE M), mS M, mT M, mF M) → post true y') : wp_X1_swap G post y X := by
  obtain ⟨g, h⟩ := h
  obtain ⟨-, ⟨c1, c2, c3⟩, -, -, hK, -⟩ := id h
  rcases hK with ⟨k1, k2⟩ | ⟨K, e2, g2, k1, k2, k3⟩
  · refine ⟨_, ⟨_, h.cx, rfl⟩, fun _ => h0 k1 y ⟨g, h⟩, fun a3 z => ?_⟩
    rw [k2] at z; cases z
  · refine ⟨_, ⟨_, h.cx, rfl⟩, fun z => (by rw [k2] at z; cases z), fun a3 z => ⟨_, ⟨_, h.cx, rfl⟩, _, ⟨_, h.cx, rfl⟩, _, h.cx, by simp, fun y6 hy6 => ?_⟩⟩
    have u6 : SU y y6 X := by rw [hy6]; exact SU.put
    have hX6 : y6.1 X = some (ob 0 [va_rf (some (xTp g)), .int (nI (mT M).length), .int (mF M), va_rf (some (xLs g)), va_rf (xKq g), va_rf (xKq g), va_rf (some (xSn g)), va_rf (some (xOt g))]) := by rw [hy6, hput_at]; rfl
    refine ⟨_, hX6, by simp, fun y8 hy8 => ?_⟩
    have u8 : SU y y8 X := u6.tr (by rw [hy8]; exact SU.put)
    have hX8 : y8.1 X = some (ob 0 [va_rf (some (xTp g)), .int (nI (mT M).length), .int (mF M), va_rf (some (xLs g)), va_rf (some e2), va_rf (some (xE g)), va_rf (some (xSn g)), va_rf (some (xOt g))]) := by rw [hy8, hput_at, ← k2]; rfl
    obtain ⟨a1, a2, a3, a4, a5, a6, a7⟩ := h.sx u8 ⟨_, hX8⟩
    have hE2 : EX G y8 (xD g) (xDl g) e2 K g2 := k3.kb (u8.kb h.cx rfl) ((u8.kc h.cx (by decide) _ _ k3.1.1).trans k3.1.1.symm) (u8.kf h.1 h.cx (by decide))
    exact h1 K y8 k1 ⟨(g.1, g.2.1, g.2.2.1, (e2, g2), some (xE g), g.2.2.2.2.2), a1, ⟨hX8, a7, c3⟩, a2, hE2, Or.inr ⟨_, _, _, rfl, rfl, a3⟩, a5, a6, h.2.2.2.2.2.2.2⟩
theorem XRg.rdX {G : GP} {y : HS} {X : Nat} {M : MS} {g : XG} (h : XRg G y X M g) : ∃ fs, rd G y X (ob 0 fs) := ⟨_, Or.inl h.cx⟩
theorem cx_keptWeight {G : GP} {y : HS} {X : Nat} {M : MS} {i : Int32} {post : Int32 → HS → Prop} (h : XR G y X M) (hp : ∀ y', XR G y' X M → post (aKeptW (mK M) (mS M) i) y') : wp_X1_keptWeight G post y X i := by
  obtain ⟨g, h⟩ := h
  have hl : (mS M).length ≤ 24 := h.2.2.1.2.2.2.1
  obtain ⟨v, ⟨c1, c2, c3⟩, -, -, hK, -, ⟨v0, v1, c0, t0, k0, w0, lf0, wy0, h7⟩, -⟩ := id h
  rcases hK with ⟨k1, k2⟩ | ⟨K, e2, g2, k1, k2, k3⟩
  · rw [k1, aKeptW] at hp
    refine ⟨_, ⟨_, h.cx, rfl⟩, fun _ => hp y ⟨g, h⟩, fun a3 z => ?_⟩
    rw [k2] at z; cases z
  · rw [k1, aKeptW] at hp
    refine ⟨_, ⟨_, h.cx, rfl⟩, fun z => (by rw [k2] at z; cases z), fun a3 z => ⟨h.rdX, sp_isStay h ?_⟩⟩
    rcases isSt_or (n := (mS M).length) (by omega) i with e | ⟨k, hk, rfl⟩
    · rw [e]
      rw [gst_none e] at hp
      exact ⟨fun z => (by cases z), fun _ => hp y ⟨g, h⟩⟩
    · rw [isSt_at (by omega) hk]
      rw [gst_some (by omega) hk] at hp
      refine ⟨fun _ => ⟨_, ⟨_, h.cx, rfl⟩, _, ⟨_, h.cx, rfl⟩, _, ⟨_, h.cx, rfl⟩, _, rfl, h.ls, sp_stayAt h hk (fun hq hst _ => ⟨hst.of, _, rfl, ⟨_, Or.inl h7⟩, ?_⟩)⟩, fun z => (by cases z)⟩
      rw [k2]
      refine sp_looks (xDl_sub g) v k3 hst h7 (fun y' u hs => ?_)
      have h' := h.su u (Or.inr rfl) ⟨_, _, _, _, _, _, _, _, hs⟩
      have k3' : EX G y' (xD g) (xDl g) e2 K g2 := k3.su v u h7
      exact ⟨_, ⟨_, h'.cx, rfl⟩, _, rfl, ⟨_, Or.inl hs⟩, sp_weight k3' hs (hp y' ⟨g, h'⟩)⟩
theorem isSoM_sp {G : GP} {y : HS} {w v : Int32} {post : Bool → HS → Prop} (hp : post (isSoM w v) y) : wp_X1_isSo G post y w v := by
  unfold isSoM at hp
  refine ⟨fun h0 => ?_, fun h0 => ⟨fun h1 => ?_, fun h1 => ⟨fun h2 => ?_, fun h2 => ?_⟩⟩⟩
  · rw [if_pos h0] at hp; exact sp_isD hp
  · rw [if_neg h0, if_pos h1] at hp; exact sp_within hp
  · rw [if_neg h0, if_neg h1, if_pos h2] at hp; exact sp_within hp
  · rw [if_neg h0, if_neg h1, if_neg h2] at hp; exact hp
theorem cx_clear {G : GP} {y : HS} {X : Nat} {M : MS} {post : Int32 → HS → Prop} (h : XR G y X M) (hp : ∀ y', XR G y' X (mE M, mK M, [], mT M, mF M) → post (nI (mS M).length) y') : wp_X1_clear G post y X := by
  obtain ⟨g, h⟩ := h
  obtain ⟨v, -, s, -⟩ := id h
  refine ⟨_, ⟨_, h.cx, rfl⟩, _, rfl, h.ls, v.size s.1 ⟨_, ⟨_, h.cx, rfl⟩, _, rfl, h.ls, v.clear s.1 (fun y' v' kp _ _ kf => ?_)⟩⟩
  rw [List.length_map, s.2.2.1]
  have hO : xO g (xLs g) ≠ (0, 0) := by rw [s.2.1]; simp
  have hX := h.kp3 v' kp kf (De.up hO) (ss := []) (sq := []) (s1 := xS1 g) (s2 := xS2 g) ⟨by unfold va_up; rw [if_pos rfl]; rfl, s.2.1, rfl, Nat.zero_le _, List.nodup_nil, fun k hk => absurd hk (Nat.not_lt_zero _)⟩
  exact hp y' ⟨_, hX⟩
theorem cx_drop {G : GP} {y : HS} {X B : Nat} {M : MS} {i c : Int32} {post : Bool → HS → Prop} (hB : 1 ≤ B) (h : XR G y X M) (hp : ∀ y', XR G y' X (mE M, mK M, (aDrop (mS M) i c).2, mT M, mF M) → post (aDrop (mS M) i c).1 y') : wp_X1_drop G B post y X i c := by
  obtain ⟨g, h⟩ := h
  have hl : (mS M).length ≤ 24 := h.2.2.1.2.2.2.1
  have hvc := vcost_le c
  refine ⟨h.rdX, sp_isStay h ?_⟩
  rcases isSt_or (n := (mS M).length) (by omega) i with e | ⟨k, hk, rfl⟩
  · rw [e]
    rw [aDrop, gst_none e] at hp
    exact ⟨fun _ => hp y ⟨g, h⟩, fun z => (by cases z)⟩
  · rw [isSt_at (by omega) hk]
    rw [aDrop, gst_some (by omega) hk] at hp
    refine ⟨fun z => (by cases z), fun _ => ⟨_, ⟨_, h.cx, rfl⟩, _, rfl, h.ls, sp_stayAt h hk (fun hq hst ho => ⟨hst.of, _, rfl, ⟨_, Or.inl hst.1⟩, B, by omega, sp_loses h.1 hst (by omega) (fun y' hn v' kp _ _ kf => ⟨fun _ => ?_, fun z => (by cases z)⟩) (fun y' xs hm v' hst' kp _ _ kf => ⟨fun z => (by cases z), fun _ => ?_⟩)⟩)⟩⟩
    · simp only [if_neg hn] at hp
      exact hp y' ⟨g, h.new v' kp kf⟩
    · simp only [if_pos hm] at hp
      have h' := h.upd hk hq v' kp kf hst' (stOk_del ho)
      rw [set_upS (by omega)] at h'
      exact hp y' ⟨_, h'⟩
