/-! The component's reader: leaves -/
set_option maxRecDepth 100000
theorem app_first {α : Type} (l : List α) (c : α) (k : Nat) (h : k < (l ++ [c]).length) (h2 : k < l.length) : (l ++ [c])[k]'h = l[k] := List.getElem_append_left h2
theorem charv : ∀ c, c < 128 → vp_nar .char (((nI c &&& nI 255).toUInt32 % 65536).toInt32) = nI c := by decide +kernel
/-- a name's letters in an array of its own -/
theorem st_toChars {G : GP} {y : HS} {q B : Nat} {w : List Nat} {post : Option Nat → HS → Prop} (hw : WF G y) (hs : stW G y q w) (hl : w.length ≤ 8) (hB : 1 ≤ B) (hp : ∀ y', WF G y' → chars y' y.2 w → (∀ b, b < y.2 → y'.1 b = y.1 b) → y.2 ≤ y'.2 → post (some y.2) y') : wp_J5_toCharArray G B post y q := by
  obtain ⟨z, h0, zz, d1, q2, g, rfl, r2, n2, c2, f2⟩ := hs
  refine ⟨⟨_, Or.inl d1⟩, fun z => absurd z (by decide), fun _ => ⟨_, ⟨_, Or.inl d1, rfl⟩, fun z => absurd rfl z, fun _ => ⟨fun z => (by cases z), fun _ => ⟨_, ⟨_, Or.inl d1, rfl⟩, B, by omega, q2, rfl, _, g, r2, w.length, rfl, by omega, by omega, ?_⟩⟩⟩⟩
  rintro a5 rfl y4 hy4
  have w4 : WF G y4 := by rw [hy4]; exact hw.new
  have a4 : y4.1 y.2 = some (ai 4 w.length (fun _ => 0)) := by rw [hy4, hnew_at]
  have f4 : ∀ b, b < y.2 → y4.1 b = y.1 b := fun b hb => by rw [hy4, hnew_ne (by omega)]
  have n4 : y4.2 = y.2 + 1 := by rw [hy4]; rfl
  have r4 : rd G y4 q2 (ai 3 w.length g) := by
    rcases r2 with r2 | r2
    · exact Or.inl ((f4 q2 (hw.lt r2)).trans r2)
    · exact Or.inr r2
  refine ⟨_, g, r4, fun n y' x6 x7 x8 => ∃ j g', j ≤ w.length ∧ n = w.length - j ∧ x6 = nI j ∧ x7 = nI j ∧ x8 = nI j ∧ WF G y' ∧ y'.1 y.2 = some (ai 4 w.length g') ∧ (∀ i (h : i < w.length), i < j → g' i = nI w[i]) ∧ (∀ b, b < y.2 → y'.1 b = y.1 b) ∧ y.2 ≤ y'.2, ⟨_, 0, _, Nat.zero_le _, rfl, rfl, rfl, rfl, w4, a4, fun i _ z => absurd z (Nat.not_lt_zero _), f4, by omega⟩, ?_⟩
  rintro n y' x6 x7 x8 ⟨j, g', hj, rfl, rfl, rfl, rfl, w', a', hg, f', n'⟩
  refine ⟨fun hge => ?_, fun hlt => ?_⟩
  · have hjl := nle_of (by omega) hj hge
    exact hp y' w' ⟨g', a', fun i hi => hg i hi (by omega)⟩ f' n'
  · have hj2 := nlt_of (by omega) hj hlt
    have r' : rd G y' q2 (ai 3 w.length g) := by
      rcases r2 with r2 | r2
      · exact Or.inl ((f' q2 (hw.lt r2)).trans r2)
      · exact Or.inr r2
    refine ⟨q2, rfl, _, g, r', vp_inN hj2 (by omega), y.2, rfl, _, g', a', vp_inN hj2 (by omega), fun y16 hy16 => ⟨w.length - (j + 1), by omega, j + 1, upd g' (nI j).toNatClampNeg (vp_nar .char (((g (nI j).toNatClampNeg &&& nI 255).toUInt32 % 65536).toInt32)), by omega, rfl, by rw [nI_add], by rw [nI_add], by rw [nI_add], by rw [hy16]; exact w'.put a', by rw [hy16, hput_at], fun i hi hij => ?_, fun b hb => ?_, by rw [hy16]; exact n'⟩⟩
    · rw [nI_clamp (by omega)]
      unfold upd
      by_cases e : i = j
      · subst e
        rw [if_pos rfl, f2 i hi, charv _ (c2 _ (List.getElem_mem hi))]
      · rw [if_neg e]
        exact hg i hi (by omega)
    · rw [hy16, hput_ne (by omega)]; exact f' b hb
/-- whether the class k is called so -/
theorem sp_called {G : GP} {y : HS} {D : LM} {K : Nat → Nat} {e k q2 nn : Nat} {E : Ed} {g : EG} {bs : List Nat} {post : Bool → HS → Prop} (hE : peC y D K e E nn g) (hcl : clOk E) (hk : k < (eCl E).length) (h2 : chars y q2 bs) (hb : bs.length ≤ 100) (hb2 : ∀ b ∈ bs, b < 256) (hp : post (decide ((eCl E)[k].1 = bs)) y) : wp_X2_isCalled G post y e (nI k) (some q2) := by
  obtain ⟨c1, -, -, ⟨gn, n1, n2, n3⟩, -, -, -, l16⟩ := hE
  obtain ⟨q, w1, gq, w2, w3⟩ := n2 k hk
  obtain ⟨g2, z2, z3⟩ := h2
  have hnm := hcl _ (List.getElem_mem hk)
  have hvk : vp_in (nI k) 16 := vp_inN (by omega) (by omega)
  have hck : (nI k).toNatClampNeg = k := nI_clamp (by omega)
  have hl8 := hnm.2.1
  refine ⟨_, ⟨_, c1, rfl⟩, _, rfl, 16, gn, Or.inl n1, hvk, q, by rw [hck]; exact w1, _, gq, Or.inl w2, q2, rfl, _, g2, Or.inl z2, fun he => ?_, fun hne => ?_⟩
  · have hl : (eCl E)[k].1.length = bs.length := (nI_eq (by omega) (by omega)).mp he
    refine ⟨fun n y' x => y' = y ∧ ∃ j, x = nI j ∧ j ≤ bs.length ∧ n = bs.length - j ∧ ∀ i (h1 : i < (eCl E)[k].1.length) (h2 : i < bs.length), i < j → (eCl E)[k].1[i] = bs[i], ⟨_, rfl, 0, rfl, Nat.zero_le _, rfl, fun i _ _ h => absurd h (Nat.not_lt_zero _)⟩, ?_⟩
    rintro n y' x ⟨e0, j, rfl, hj, rfl, hyes⟩
    subst e0
    refine ⟨_, g2, Or.inl z2, fun hge => ?_, fun hlt => ?_⟩
    · have hh := nle_of (by omega) hj hge
      have : (eCl E)[k].1 = bs := List.ext_getElem hl (fun i h1 h2 => hyes i h1 h2 (by omega))
      rw [decide_eq_true this] at hp
      exact hp
    · have hj2 := nlt_of (by omega) hj hlt
      refine ⟨_, ⟨_, c1, rfl⟩, _, rfl, 16, gn, Or.inl n1, hvk, q, by rw [hck]; exact w1, _, gq, Or.inl w2, vp_inN (by omega) (by omega), _, g2, Or.inl z2, vp_inN hj2 (by omega), ?_⟩
      rw [nI_clamp (show j < 2 ^ 31 by omega), w3 j (by omega), z3 j hj2]
      have a1 := hnm.2.2 _ (List.getElem_mem (show j < (eCl E)[k].1.length by omega))
      have a2 := hb2 _ (List.getElem_mem hj2)
      refine ⟨fun heq => ⟨bs.length - (j + 1), by omega, rfl, j + 1, by rw [nI_add], by omega, rfl, fun i h1 h2 hij => ?_⟩, fun hne => ?_⟩
      · by_cases e : i = j
        · subst e; exact (nI_eq (by omega) (by omega)).mp heq
        · exact hyes i h1 h2 (by omega)
      · have : ¬ (eCl E)[k].1 = bs := fun z => hne (by simp only [z])
        rw [decide_eq_false this] at hp
        exact hp
  · have : ¬ (eCl E)[k].1 = bs := fun z => hne (by rw [z])
    rw [decide_eq_false this] at hp
    exact hp
theorem px_classOf {G : GP} {y0 : HS} {n0 : Nat} {y : HS} {R e X tp op ln B q : Nat} {ch : Option Nat} {bs : List Nat} {s : PS} {nn : Nat} {D : LM} {K : Nat → Nat} {g : EG} {gA : Nat → List Cn} {w : List Nat} {post : Int32 → HS → Prop} (h : PX G y0 n0 y R e X tp op ln ch bs s nn D K g gA) (hcl : clOk (pE s)) (hq : stW G y q w) (hw : isNm w) (hB : (if clI (pE s) w < (eCl (pE s)).length then clI (pE s) w + 1 else (eCl (pE s)).length) ≤ B)
    (hp : ∀ y', PX G y0 n0 y' R e X tp op ln ch bs s nn D K g gA → Qs y y' → post (if clI (pE s) w < (eCl (pE s)).length then nI (clI (pE s) w) else -1) y') : wp_X2_classOf G B post y e (some q) := by
  have l16 := h.2.2.1.2.2.2.2.2.2.2
  refine ⟨fun n y' u x => ∃ k, k ≤ (eCl (pE s)).length ∧ n = (eCl (pE s)).length - k ∧ x = nI k ∧ k = u ∧ PX G y0 n0 y' R e X tp op ln ch bs s nn D K g gA ∧ Qs y y' ∧ (∀ j (hj : j < (eCl (pE s)).length), j < k → decide ((eCl (pE s))[j].1 = w) = false), ⟨_, 0, Nat.zero_le _, rfl, rfl, rfl, h, Qs.rf y, fun j _ z => absurd z (Nat.not_lt_zero _)⟩, ?_⟩
  rintro n y' u x ⟨k, hk, rfl, rfl, rfl, P, Q, hno⟩
  have hki : k ≤ clI (pE s) w := by
    rcases Nat.lt_or_ge (clI (pE s) w) k with z | z
    · exfalso
      have hz : clI (pE s) w < (eCl (pE s)).length := by omega
      have := hno _ hz z
      have h2 := List.findIdx_getElem (w := (show (eCl (pE s)).findIdx (fun c => decide (c.1 = w)) < (eCl (pE s)).length from hz))
      have h3 : decide ((eCl (pE s))[clI (pE s) w].1 = w) = true := h2
      rw [this] at h3
      cases h3
    · exact z
  have hkB : k ≤ B := by
    split at hB <;> omega
  obtain ⟨c1, c2⟩ := id P.2.2.1
  refine ⟨hkB, _, ⟨_, c1, rfl⟩, fun hge => ?_, fun hlt => ?_⟩
  · have hkl := nle_of (by omega) hk hge
    have := hp y' P Q
    rw [if_neg (by omega)] at this
    exact this
  · have hk2 := nlt_of (by omega) hk hlt
    have S := hq.pk Q.pks
    obtain ⟨z9, h9, zz9, d9, -⟩ := id S
    have hk1 : k + 1 ≤ B := by
      split at hB <;> omega
    refine ⟨q, rfl, ⟨_, Or.inl d9⟩, 1, hk1, st_toChars P.1.wf S hw.2.1 (Nat.le_refl _) (fun y12 w12 ch12 f12 n12 => ?_)⟩
    have Q12 : Qs y' y12 := Qs.up P.1.wf f12 n12
    have P12 := P.q (P.1.up w12 f12 n12) rfl Q12
    refine ⟨⟨_, Or.inl P12.2.2.1.1⟩, sp_called P12.2.2.1 hcl hk2 ch12 (by have := hw.2.1; omega) (fun b hb => by have := hw.2.2 b hb; omega) ⟨fun hb => ⟨(eCl (pE s)).length - (k + 1), by omega, k + 1, by omega, rfl, by rw [nI_add], rfl, P12, Q.tr Q12, fun j hj hjk => ?_⟩, fun hb => ?_⟩⟩
    · by_cases e : j = k
      · subst e; exact hb
      · exact hno j hj (by omega)
    · have e1 : clI (pE s) w = k := findIdx_at (p := fun c : Cl => decide (c.1 = w)) hk2 hno hb
      have := hp y12 P12 (Q.tr Q12)
      rw [if_pos (by omega), e1] at this
      exact this
theorem shrt : ∀ c, c < 1000 → vp_nar .short (nI c).toInt16.toInt32 = nI c := by decide +kernel
/-- a class more -/
theorem px_adds {G : GP} {y0 : HS} {n0 : Nat} {y : HS} {R e X tp op ln B q wt : Nat} {ch : Option Nat} {bs : List Nat} {s : PS} {nn : Nat} {D : LM} {K : Nat → Nat} {g : EG} {gA : Nat → List Cn} {w : List Nat} {post : Int32 → HS → Prop} (h : PX G y0 n0 y R e X tp op ln ch bs s nn D K g gA) (hl16 : (eCl (pE s)).length < 16) (hq : stW G y q w) (hw : isNm w) (hwt : wt < 1000) (hB : 1 ≤ B) (hold : n0 ≤ e ∧ n0 ≤ (gLs g).2.2.2.2.2.1 ∧ n0 ≤ (gLs g).2.2.2.2.2.2)
    (hp : ∀ y', PX G y0 n0 y' R e X tp op ln ch bs (sEd s (uCl (pE s) (eCl (pE s) ++ [(w, nI wt)]))) nn D K g gA → PKw y y' → K7 y y' → SW y y' → KB y y' → Cls y y' → y.2 ≤ y'.2 → KF y D y' D → post (nI (eCl (pE s)).length) y') : wp_X2_adds G B post y e (some q) (nI wt) := by
  obtain ⟨c1, a1, a2, ⟨gn, n1, n2, n3⟩, ⟨gw, m1, m2⟩, b1, b2, b3⟩ := id h.2.2.1
  obtain ⟨z9, h9, zz9, d9, -⟩ := id hq
  have hwf := h.1.wf
  have lnm : (gLs g).2.2.2.2.2.1 < y.2 := hwf.lt n1
  have lwt : (gLs g).2.2.2.2.2.2 < y.2 := hwf.lt m1
  have le : e < y.2 := hwf.lt c1
  have hck : (nI (eCl (pE s)).length).toNatClampNeg = (eCl (pE s)).length := nI_clamp (by omega)
  have hvk : vp_in (nI (eCl (pE s)).length) 16 := vp_inN hl16 (by omega)
  refine ⟨_, ⟨_, c1, rfl⟩, _, ⟨_, c1, rfl⟩, q, rfl, ⟨_, Or.inl d9⟩, 1, by omega, st_toChars hwf hq hw.2.1 (Nat.le_refl _) (fun y4 w4 ch4 f4 n4 => ?_)⟩
  obtain ⟨g4, e4, e5⟩ := id ch4
  have n4' := (f4 _ lnm).trans n1
  refine ⟨_, rfl, 16, gn, y.2, _, g4, n4', hvk, rfl, e4, fun y10 hy10 => ?_⟩
  have ne1 : (gLs g).2.2.2.2.2.2 ≠ (gLs g).2.2.2.2.2.1 := fun ee => by
    rw [ee, n1] at m1
    have := Option.some.inj m1
    simp [ar, ai] at this
  have ne2 : e ≠ (gLs g).2.2.2.2.2.1 := fun ee => by rw [ee, n1] at c1; exact ar_ne_ob (Option.some.inj c1)
  have ne3 : e ≠ (gLs g).2.2.2.2.2.2 := fun ee => by rw [ee, m1] at c1; exact ai_ne_ob (Option.some.inj c1)
  have e10a : y10.1 e = y.1 e := by rw [hy10, hput_ne ne2]; exact f4 _ le
  have e10 := e10a.trans c1
  have m10 : y10.1 (gLs g).2.2.2.2.2.2 = some (ai 5 16 gw) := by rw [hy10, hput_ne ne1]; exact (f4 _ lwt).trans m1
  refine ⟨_, ⟨_, e10, rfl⟩, _, ⟨_, e10, rfl⟩, _, rfl, 16, gw, m10, hvk, fun y19 hy19 => ?_⟩
  have e19a : y19.1 e = y10.1 e := by rw [hy19, hput_ne ne3]
  have e19 := e19a.trans e10
  refine ⟨_, ⟨_, e19, rfl⟩, _, e19, by show 7 < 9; omega, fun y22 hy22 => ?_⟩
  have e22 : y22.1 e = some (ob 1 [va_rf (some (gLs g).1), va_rf (some (gLs g).2.1), va_rf (some (gLs g).2.2.1), va_rf (some (gLs g).2.2.2.1), va_rf (some (gLs g).2.2.2.2.1), va_rf (some (gLs g).2.2.2.2.2.1), va_rf (some (gLs g).2.2.2.2.2.2), .int (nI ((eCl (pE s)).length + 1)), .int (nI nn)]) := by
    rw [hy22, hput_at, ← nI_add]; rfl
  refine ⟨_, ⟨_, e22, rfl⟩, ?_⟩
  have nm22 : y22.1 (gLs g).2.2.2.2.2.1 = some (ar 7 16 (va_up gn (eCl (pE s)).length (some y.2))) := by
    rw [hy22, hput_ne ne2.symm, hy19, hput_ne ne1.symm, hy10, hput_at, hck]
  have wt22 : y22.1 (gLs g).2.2.2.2.2.2 = some (ai 5 16 (upd gw (eCl (pE s)).length (nI wt))) := by
    rw [hy22, hput_ne ne3.symm, hy19, hput_at, hck, shrt _ hwt]
  have f22 : ∀ b, b < y.2 → b ≠ e → b ≠ (gLs g).2.2.2.2.2.1 → b ≠ (gLs g).2.2.2.2.2.2 → y22.1 b = y.1 b := fun b hb h1 h2 h3 => by
    rw [hy22, hput_ne h1, hy19, hput_ne h3, hy10, hput_ne h2]; exact f4 b hb
  have n22 : y22.2 = y4.2 := by rw [hy22, hy19, hy10]; rfl
  have w22 : WF G y22 := by
    rw [hy22]; refine WF.put ?_ e19
    rw [hy19]; refine WF.put ?_ m10
    rw [hy10]; exact w4.put n4'
  have hne : ∀ b x, y.1 b = some x → (∀ fs, x ≠ ob 1 fs) → (∀ n g, x ≠ ar 7 n g) → (∀ n g, x ≠ ai 5 n g) → y22.1 b = some x := fun b x hb h1 h2 h3 => by
    rw [f22 b (hwf.lt hb) (fun ee => by rw [ee, c1] at hb; exact h1 _ (Option.some.inj hb).symm) (fun ee => by rw [ee, n1] at hb; exact h2 _ _ (Option.some.inj hb).symm) (fun ee => by rw [ee, m1] at hb; exact h3 _ _ (Option.some.inj hb).symm)]
    exact hb
  have ai_ar : ∀ (t n m u : Nat) (g : Nat → Int32) (g' : Nat → Option Nat), ai t n g ≠ ar u m g' := fun t n m u g g' z => by simp [ar, ai] at z
  have hO : ∀ b c fs, y.1 b = some (ob c fs) → c ≠ 1 → y22.1 b = some (ob c fs) := fun b c fs hb hc => hne b _ hb (fun _ => ob_ne hc) (fun _ _ => fun z => ar_ne_ob z.symm) (fun _ _ => fun z => ai_ne_ob z.symm)
  have hA : ∀ b t n g', y.1 b = some (ai t n g') → t ≠ 5 → y22.1 b = some (ai t n g') := fun b t n g' hb ht => hne b _ hb (fun _ => ai_ne_ob) (fun _ _ => ai_ar _ _ _ _ _ _) (fun _ _ z => ht (by injection z with z; injection z))
  have hL : ∀ b x, y.1 b = some x → isLs x = true → y22.1 b = some x := fun b x hb hx => by
    refine hne b x hb (fun fs z => ?_) (fun n g z => ?_) (fun n g z => ?_) <;> (subst z; cases hx)
  have kw : PKw y y22 := fun b x hb hx => by
    rcases hx with ⟨c', v, gs, rfl, z1, z2, -⟩ | ⟨u1, u2, u3, u4, rfl, -⟩ | ⟨t, n, g', rfl, z1⟩
    · exact hO _ _ _ hb (by omega)
    · exact hO _ _ _ hb (by decide)
    · exact hA _ _ _ _ hb (by omega)
  have k7 : K7 y y22 := fun b v fs hb _ => hO _ _ _ hb (by decide)
  have sw : SW y y22 := fun b z h0 zz hb => ⟨h0, zz, hO _ _ _ hb (by decide)⟩
  have kb : KB y y22 := fun b c fs l1 l2 hb => hO _ _ _ hb (by omega)
  have cl : Cls y y22 := fun b c fs hb => by
    by_cases hc : c = 1
    · subst hc
      by_cases hbe : b = e
      · rw [hbe]; exact ⟨_, e22⟩
      · refine ⟨fs, ?_⟩
        rw [f22 b (hwf.lt hb) hbe (fun ee => by rw [ee, n1] at hb; exact ar_ne_ob (Option.some.inj hb)) (fun ee => by rw [ee, m1] at hb; exact ai_ne_ob (Option.some.inj hb))]
        exact hb
    · exact ⟨fs, hO _ _ _ hb hc⟩
  have v22 : V2 G n0 y22 D := h.2.1.step w22 hL cl
  have kf : KF y D y22 D := KF.step hL (fun a xs hd => h.2.1.1.cell hd)
  have x22 : XP G y0 n0 y22 R e X tp op ln ch bs (sEd s (uCl (pE s) (eCl (pE s) ++ [(w, nI wt)]))) := by
    refine h.1.mv rfl w22 (fun b x hb hx => ?_) (fun a ha => ?_) (by omega)
    · rcases hx with ⟨c', gs', rfl, z2⟩ | ⟨n, g', rfl⟩
      · exact hO _ _ _ hb (by omega)
      · exact hA _ _ _ _ hb (by decide)
    · have := h.1.2.2.2.2
      exact f22 a (by omega) (by omega) (by omega) (by omega)
  have := hp y22 ⟨x22, v22, ?_⟩ kw k7 sw kb cl (by omega) kf
  · rw [nI_sub (by omega), Nat.add_sub_cancel]; exact this
  · obtain ⟨-, pT, pK, p4, p5, p6, p7, p8⟩ := id h.2.2
    refine ⟨⟨?_, ?_, ?_, ⟨_, nm22, fun k hk => ?_, fun k hk => ?_⟩, ⟨_, wt22, fun k hk => ?_⟩, b1, b2, ?_⟩, pT.st kw (fun r fs _ hr => hO r 11 fs hr (by decide)) (fun _ _ z => z) kf.one, pK, p4, p5, p6, p7, fun k a b => ?_⟩
    · rw [e22]
      show _ = some (ob 1 [_, _, _, _, _, _, _, .int (nI (eCl (pE s) ++ [(w, nI wt)]).length), _])
      rw [List.length_append, List.length_singleton]
    · obtain ⟨xs, z1, z2⟩ := a1
      exact ⟨xs, z1, All2.imp z2 (fun _ _ z => z.pk kw)⟩
    · obtain ⟨xs, z1, z2⟩ := a2
      exact ⟨xs, z1, All2.imp z2 (fun _ _ z => z.pk kw (fun _ _ z => z))⟩
    · have hk' : k < (eCl (pE s) ++ [(w, nI wt)]).length := hk
      rw [List.length_append, List.length_singleton] at hk'
      show ∃ q, va_up gn (eCl (pE s)).length (some y.2) k = some q ∧ chars y22 q ((eCl (pE s) ++ [(w, nI wt)])[k]'hk).1
      by_cases hkl : k < (eCl (pE s)).length
      · obtain ⟨q3, z1, z2⟩ := n2 k hkl
        refine ⟨q3, ?_, ?_⟩
        · rw [show va_up gn (eCl (pE s)).length (some y.2) k = gn k by simp [va_up, Nat.ne_of_lt hkl]]
          exact z1
        · have ee : ((eCl (pE s) ++ [(w, nI wt)])[k]'hk) = (eCl (pE s))[k] := app_first _ _ k hk hkl
          show chars y22 q3 ((eCl (pE s) ++ [(w, nI wt)])[k]'hk).1
          rw [ee]
          exact z2.pk kw
      · have e1 : k = (eCl (pE s)).length := by omega
        subst e1
        refine ⟨y.2, by simp [va_up], ?_⟩
        have ee : ((eCl (pE s) ++ [(w, nI wt)])[(eCl (pE s)).length]'hk) = (w, nI wt) := app_last _ _ hk
        show chars y22 y.2 ((eCl (pE s) ++ [(w, nI wt)])[(eCl (pE s)).length]'hk).1
        rw [ee]
        refine ⟨g4, ?_, e5⟩
        rw [hy22, hput_ne (by omega), hy19, hput_ne (by omega), hy10, hput_ne (by omega)]
        exact e4
    · have hk' : (eCl (pE s) ++ [(w, nI wt)]).length ≤ k := hk
      rw [List.length_append, List.length_singleton] at hk'
      rw [show va_up gn (eCl (pE s)).length (some y.2) k = gn k by simp [va_up, show k ≠ (eCl (pE s)).length by omega]]
      exact n3 k (by omega)
    · have hk' : k < (eCl (pE s) ++ [(w, nI wt)]).length := hk
      rw [List.length_append, List.length_singleton] at hk'
      show upd gw (eCl (pE s)).length (nI wt) k = ((eCl (pE s) ++ [(w, nI wt)])[k]'hk).2
      unfold upd
      by_cases hkl : k < (eCl (pE s)).length
      · have ee : ((eCl (pE s) ++ [(w, nI wt)])[k]'hk) = (eCl (pE s))[k] := app_first _ _ k hk hkl
        rw [if_neg (by omega)]
        show gw k = ((eCl (pE s) ++ [(w, nI wt)])[k]'hk).2
        rw [ee]
        exact m2 k hkl
      · have e1 : k = (eCl (pE s)).length := by omega
        subst e1
        have ee : ((eCl (pE s) ++ [(w, nI wt)])[(eCl (pE s)).length]'hk) = (w, nI wt) := app_last _ _ hk
        rw [if_pos rfl]
        show nI wt = ((eCl (pE s) ++ [(w, nI wt)])[(eCl (pE s)).length]'hk).2
        rw [ee]
    · show (eCl (pE s) ++ [(w, nI wt)]).length ≤ 16
      rw [List.length_append, List.length_singleton]; omega
    · have z := chP.st2 (v := 1000) (by omega) (p8 k a b) kw k7 sw (KD.rf _ D K) (by omega) (gA' := gA) rfl (E' := uCl (pE s) (eCl (pE s) ++ [(w, nI wt)])) (g' := g) rfl (fun _ _ _ z => z)
      exact z
