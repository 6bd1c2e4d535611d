/-! The component's reader: told words, names -/
set_option maxRecDepth 100000
theorem hsh_wd : ∀ i, i < 20 → hsh (wd i) = whT.getD i 0 := by decide +kernel
theorem whT_inj : ∀ i, i < 20 → ∀ j, j < 20 → whT.getD i 0 = whT.getD j 0 → i = j := by decide +kernel
theorem wdT_ix {w : List Nat} (h : w ∈ wdT) : ∃ i, i < 20 ∧ w = wd i := by
  obtain ⟨i, hi, e⟩ := List.getElem_of_mem h
  have hl : wdT.length = 20 := rfl
  refine ⟨i, by omega, ?_⟩
  unfold wd
  rw [List.getD_eq_getElem?_getD, List.getElem?_eq_getElem hi, ← e]
  rfl
theorem wd_mem {i : Nat} (h : i < 20) : wd i ∈ wdT := by
  have hl : wdT.length = 20 := rfl
  unfold wd
  rw [List.getD_eq_getElem?_getD, List.getElem?_eq_getElem (by omega)]
  exact List.getElem_mem _
theorem told_no {w : List Nat} {i : Nat} (hi : i < 20) (e : hsh w = whT.getD i 0) (hne : ¬ w = wd i) : w ∉ wdT := fun hm => by
  obtain ⟨j, hj, rfl⟩ := wdT_ix hm
  rw [hsh_wd j hj] at e
  exact hne (by rw [whT_inj j hj i hi e])
theorem told_none {w : List Nat} (h : ∀ j, j < 20 → ¬ hsh w = whT.getD j 0) : w ∉ wdT := fun hm => by
  obtain ⟨j, hj, rfl⟩ := wdT_ix hm
  exact h j hj (hsh_wd j hj)
theorem byR.det {G : GP} {y : HS} {r : Option Nat} {b1 b2 : List Nat} (hG : GK G) (hw : WF G y) (h1 : byR G y r b1) (h2 : byR G y r b2) : b1 = b2 := by
  obtain ⟨q, g1, e1, d1, n1, c1, f1⟩ := h1
  obtain ⟨q2, g2, e2, d2, n2, c2, f2⟩ := h2
  rw [e1] at e2
  cases e2
  have con : ∀ {b : List Nat} {g : Nat → Int32}, (∀ c ∈ b, c < 128) → (∀ j (h : j < b.length), g j = nI b[j]) → hcon G q (ai 3 b.length g) → ∃ i, i < 20 ∧ q = gV G i ∧ b = wd i := by
    intro b g hc hf h
    rcases h with ⟨i, -, -, e⟩ | ⟨i, hi, hq, e⟩ | ⟨i, -, -, e⟩ | ⟨i, -, -, e⟩ | ⟨-, e⟩
    · exact absurd e ai_ne_ob
    · refine ⟨i, hi, hq, ?_⟩
      injection e with e
      injection e with e0 e
      injection e with e3 e4
      injection e4 with e4
      have hd : ∀ i, i < 20 → ∀ c ∈ wd i, c < 128 := by decide
      refine List.ext_getElem e3 (fun j hj hj2 => ?_)
      have k1 := hf j hj
      rw [e4] at k1
      have k2 : nI ((wd i).getD j 0) = nI (wd i)[j] := by rw [List.getD_eq_getElem?_getD, List.getElem?_eq_getElem hj2]; rfl
      exact ((nI_byte (hc _ (List.getElem_mem hj)) (hd i hi _ (List.getElem_mem hj2))).mp (k1.symm.trans k2))
    · exact absurd e ai_ne_ob
    · exact absurd e ai_ne_ob
    · injection e with e
      injection e with e0 e
      exact absurd e0 (by decide)
  have lo : ∀ {x : HE} {i : Nat}, y.1 q = some x → i < 20 → q = gV G i → False := fun hx hi e => by
    have a1 := (hw.1 _ _ hx).2
    have a2 := hG.2.2.1 _ hi
    omega
  rcases d1 with d1 | d1
  · rcases d2 with d2 | d2
    · rw [d1] at d2
      injection d2 with e
      injection e with e
      injection e with e0 e
      injection e with e3 e4
      injection e4 with e4
      refine List.ext_getElem e3 (fun j hj hj2 => ?_)
      have k1 := f1 j hj
      rw [e4, f2 j hj2] at k1
      exact ((nI_byte (c1 _ (List.getElem_mem hj)) (c2 _ (List.getElem_mem hj2))).mp k1.symm)
    · obtain ⟨i, hi, hq, -⟩ := con c2 f2 d2
      exact (lo d1 hi hq).elim
  · obtain ⟨i, hi, hq, hb⟩ := con c1 f1 d1
    rcases d2 with d2 | d2
    · exact (lo d2 hi hq).elim
    · obtain ⟨j, hj, hq2, hb2⟩ := con c2 f2 d2
      rw [hb, hb2]
      exact hG.2.2.2 i j hi hj (hq.symm.trans hq2)
/-- two Strings that are no constants -/
theorem st_equals {G : GP} {y : HS} {q q2 : Nat} {b1 b2 : List Nat} {post : Bool → HS → Prop} (hG : GK G) (hw : WF G y) (s1 : stW G y q b1) (s2 : stW G y q2 b2) (hp : post (decide (b1 = b2)) y) : wp_J5_equals G post y q (some q2) := by
  obtain ⟨z1, h1, w1, d1, e1⟩ := s1
  obtain ⟨z2, h2, w2, d2, e2⟩ := s2
  refine ⟨fun _ => ⟨true, Or.inr ⟨q2, 20, _, rfl, Or.inl d2, by decide, Or.inl ⟨rfl, rfl⟩⟩, fun h => (by cases h), fun _ => ⟨fun y6 r7 => y6 = y ∧ r7 = some q2, ?_, fun a ha => (by cases ha; exact ⟨_, Or.inl d2⟩), fun h => absurd h (by decide), fun _ => ⟨_, ⟨_, Or.inl d1, rfl⟩, q2, rfl, _, ⟨_, Or.inl d2, rfl⟩, fun h => absurd rfl h, fun _ => ⟨rfl, rfl⟩⟩⟩⟩, fun he => ?_⟩
  · rintro y6 r7 ⟨rfl, rfl⟩
    refine ⟨_, ⟨_, Or.inl d1, rfl⟩, q2, rfl, _, ⟨_, Or.inl d2, rfl⟩, sp_J10_equals e1 e2 ⟨fun hb => ?_, fun hb => ?_⟩⟩ <;> (rw [hb] at hp; exact hp)
  · have e := Option.some.inj he
    subst e
    rw [d1] at d2
    have e3 : z1 = z2 := va_rf_inj.mp (List.cons.inj (ob_inj.mp (Option.some.inj d2)).2).1
    subst e3
    rw [decide_eq_true (byR.det hG hw e1 e2)] at hp
    exact hp
/-- the token, if it is a word -/
theorem XP.word {G : GP} {y0 : HS} {n0 : Nat} {y : HS} {R e X tp op ln : Nat} {ch : Option Nat} {bs : List Nat} {s : PS} (h : XP G y0 n0 y R e X tp op ln ch bs s) (hk : pK s = 2) : ∃ q z hh zz, y.1 R = some (ob 4 [.int (nI bs.length), va_rf (some e), .int (nI (pP s)), .int (nI (pAt s)), va_rf (some q), .int (if pK s = 0 then 1 else 0), .int (nI op), .int (nI ln), va_rf ch, va_rf (some X)]) ∧ y.1 q = some (ob 20 [va_rf z, .int 0, .int hh, .int zz]) ∧ byR G y z (pW s) ∧ ((hh = 0 ∨ hh = hsh (pW s)) ∧ (zz = 0 ∨ hsh (pW s) = 0)) ∧ n0 ≤ q := by
  obtain ⟨⟨w, t, a1, a2, a3, tok, a4, a5, a6⟩, -⟩ := h
  rcases a5 with ⟨z0, z⟩ | ⟨z0, z⟩ | ⟨z0, q, z, hh, zz, z1, z2, z3, z4⟩ | ⟨z0, z⟩ | ⟨z0, z⟩
  · exfalso; have : s.1.2.1.1 = 2 := hk; omega
  · exfalso; have : s.1.2.1.1 = 2 := hk; omega
  · rw [z1] at a4
    exact ⟨q, z, hh, zz, a4, z2, z3, z4, a6 q z1 hk⟩
  · exfalso; have : s.1.2.1.1 = 2 := hk; omega
  · exfalso; have : s.1.2.1.1 = 2 := hk; omega
/-- the token, if it is none -/
theorem XP.tok {G : GP} {y0 : HS} {n0 : Nat} {y : HS} {R e X tp op ln : Nat} {ch : Option Nat} {bs : List Nat} {s : PS} (h : XP G y0 n0 y R e X tp op ln ch bs s) : ∃ tok, y.1 R = some (ob 4 [.int (nI bs.length), va_rf (some e), .int (nI (pP s)), .int (nI (pAt s)), va_rf tok, .int (if pK s = 0 then 1 else 0), .int (nI op), .int (nI ln), va_rf ch, va_rf (some X)]) ∧ isIn G y tok 20 (decide (pK s = 2)) ∧ TkX G y tok s.1.2.1 := by
  obtain ⟨⟨w, t, a1, a2, a3, tok, a4, a5, a6⟩, -⟩ := h
  exact ⟨tok, a4, (tk_in a5).1, a5⟩
/-- the token's hash -/
theorem xp_hash {G : GP} {y0 : HS} {n0 : Nat} {y : HS} {R e X tp op ln q : Nat} {ch z : Option Nat} {hh zz : Int32} {bs : List Nat} {s : PS} {post : Int32 → HS → Prop} (h : XP G y0 n0 y R e X tp op ln ch bs s) (hk : pK s = 2) (hR : y.1 R = some (ob 4 [.int (nI bs.length), va_rf (some e), .int (nI (pP s)), .int (nI (pAt s)), va_rf (some q), .int (if pK s = 0 then 1 else 0), .int (nI op), .int (nI ln), va_rf ch, va_rf (some X)])) (hq : y.1 q = some (ob 20 [va_rf z, .int 0, .int hh, .int zz])) (hb : byR G y z (pW s)) (hz : (hh = 0 ∨ hh = hsh (pW s)) ∧ (zz = 0 ∨ hsh (pW s) = 0)) (hn : n0 ≤ q)
    (hp : ∀ y' zz', XP G y0 n0 y' R e X tp op ln ch bs s → Qs y y' → y'.1 R = y.1 R → y'.1 q = some (ob 20 [va_rf z, .int 0, .int (hsh (pW s)), .int zz']) → byR G y' z (pW s) → (zz' = 0 ∨ hsh (pW s) = 0) → post (hsh (pW s)) y') : wp_J5_hashCode G post y q := by
  refine xl_hash h.wf hq hb hz (fun y' zz' w' q' k1 k2 f' n' => ?_)
  have hne : ∀ b c fs, y.1 b = some (ob c fs) → c ≠ 20 → y'.1 b = some (ob c fs) := fun b c fs hb hc => by
    rw [f' b (fun e => by rw [e, hq] at hb; exact hc (ob_inj.mp (Option.some.inj hb)).1.symm)]
    exact hb
  have hneA : ∀ b t n g, y.1 b = some (ai t n g) → y'.1 b = some (ai t n g) := fun b t n g hb => by
    rw [f' b (fun e => by rw [e, hq] at hb; exact ob_ne_ai (Option.some.inj hb))]
    exact hb
  have qs : Qs y y' := by
    refine ⟨fun b x hb => ?_, by omega⟩
    by_cases e : b = q
    · subst e
      rw [hq] at hb
      cases hb
      by_cases h0 : hh = 0
      · rw [h0]
        exact Or.inr (Or.inr ⟨z, zz, _, _, rfl, q'⟩)
      · refine Or.inl ?_
        rw [q', k2 h0]
        rcases hz.1 with v | v
        · exact absurd v h0
        · rw [v]
    · exact Or.inl ((f' b e).trans hb)
  have hb' : byR G y' z (pW s) := hb.pk qs.pks.1
  refine hp y' zz' ?_ qs ((hne _ _ _ hR (by decide)).trans hR.symm) q' hb' k1
  obtain ⟨⟨w, t, a1, a2, a3, tok, a4, a5, a6⟩, b1, b2, b3, b4⟩ := h
  refine ⟨⟨w', ?_, a1, a2, a3, some q, hne _ _ _ hR (by decide), Or.inr (Or.inr (Or.inl ⟨hk, q, z, _, zz', rfl, q', hb', Or.inr rfl, k1⟩)), fun q9 e9 _ => by cases e9; exact hn⟩, b1, b2.st (fun a ha => f' a (by omega)), b3, by omega⟩
  obtain ⟨⟨fs', z1⟩, ⟨g, z2, z3⟩, z4⟩ := t
  exact ⟨⟨fs', hne _ _ _ z1 (by decide)⟩, ⟨g, hneA _ _ _ _ z2, z3⟩, z4⟩
/-- isTold -/
theorem xp_isTold {G : GP} {y0 : HS} {n0 : Nat} {y : HS} {R e X tp op ln q : Nat} {ch z : Option Nat} {hh zz : Int32} {bs : List Nat} {s : PS} {post : Bool → HS → Prop} (hG : GK G) (h : XP G y0 n0 y R e X tp op ln ch bs s) (hk : pK s = 2) (hR : y.1 R = some (ob 4 [.int (nI bs.length), va_rf (some e), .int (nI (pP s)), .int (nI (pAt s)), va_rf (some q), .int (if pK s = 0 then 1 else 0), .int (nI op), .int (nI ln), va_rf ch, va_rf (some X)])) (hq : y.1 q = some (ob 20 [va_rf z, .int 0, .int hh, .int zz])) (hb : byR G y z (pW s)) (hz : (hh = 0 ∨ hh = hsh (pW s)) ∧ (zz = 0 ∨ hsh (pW s) = 0)) (hn : n0 ≤ q)
    (hp : ∀ y', XP G y0 n0 y' R e X tp op ln ch bs s → Qs y y' → y'.1 R = y.1 R → stW G y' q (pW s) → post (decide (pW s ∈ wdT)) y') : wp_X6_isTold G post y R (some q) := by
  refine ⟨fun y' x => post (decide (pW s ∈ wdT)) y' ∧ ((pW s ∈ wdT ∧ ∃ k, k < 20 ∧ x = nI k) ∨ (pW s ∉ wdT ∧ x = -1)), ?_, q, rfl, ⟨_, Or.inl hq⟩, xp_hash h hk hR hq hb hz hn (fun y1 zz1 X1 Q1 R1 q1 b1 hz1 => ?_)⟩
  · rintro y3 x4 ⟨hp3, ⟨hm, k, hk20, rfl⟩ | ⟨hm, rfl⟩⟩
    · rw [decide_eq_true hm] at hp3
      refine ⟨fun _ => hp3, fun n0 => ?_⟩
      refine ⟨fun _ => hp3, fun n1 => ?_⟩
      refine ⟨fun _ => hp3, fun n2 => ?_⟩
      refine ⟨fun _ => hp3, fun n3 => ?_⟩
      refine ⟨fun _ => hp3, fun n4 => ?_⟩
      refine ⟨fun _ => hp3, fun n5 => ?_⟩
      refine ⟨fun _ => hp3, fun n6 => ?_⟩
      refine ⟨fun _ => hp3, fun n7 => ?_⟩
      refine ⟨fun _ => hp3, fun n8 => ?_⟩
      refine ⟨fun _ => hp3, fun n9 => ?_⟩
      refine ⟨fun _ => hp3, fun n10 => ?_⟩
      refine ⟨fun _ => hp3, fun n11 => ?_⟩
      refine ⟨fun _ => hp3, fun n12 => ?_⟩
      refine ⟨fun _ => hp3, fun n13 => ?_⟩
      refine ⟨fun _ => hp3, fun n14 => ?_⟩
      refine ⟨fun _ => hp3, fun n15 => ?_⟩
      refine ⟨fun _ => hp3, fun n16 => ?_⟩
      refine ⟨fun _ => hp3, fun n17 => ?_⟩
      refine ⟨fun _ => hp3, fun n18 => ?_⟩
      refine ⟨fun _ => hp3, fun n19 => ?_⟩
      exfalso
      rcases (by omega : k = 0 ∨ k = 1 ∨ k = 2 ∨ k = 3 ∨ k = 4 ∨ k = 5 ∨ k = 6 ∨ k = 7 ∨ k = 8 ∨ k = 9 ∨ k = 10 ∨ k = 11 ∨ k = 12 ∨ k = 13 ∨ k = 14 ∨ k = 15 ∨ k = 16 ∨ k = 17 ∨ k = 18 ∨ k = 19) with rfl | rfl | rfl | rfl | rfl | rfl | rfl | rfl | rfl | rfl | rfl | rfl | rfl | rfl | rfl | rfl | rfl | rfl | rfl | rfl
      · exact n0 rfl
      · exact n1 rfl
      · exact n2 rfl
      · exact n3 rfl
      · exact n4 rfl
      · exact n5 rfl
      · exact n6 rfl
      · exact n7 rfl
      · exact n8 rfl
      · exact n9 rfl
      · exact n10 rfl
      · exact n11 rfl
      · exact n12 rfl
      · exact n13 rfl
      · exact n14 rfl
      · exact n15 rfl
      · exact n16 rfl
      · exact n17 rfl
      · exact n18 rfl
      · exact n19 rfl
    · rw [decide_eq_false hm] at hp3
      refine ⟨fun e => absurd e (by decide), fun _ => ?_⟩
      refine ⟨fun e => absurd e (by decide), fun _ => ?_⟩
      refine ⟨fun e => absurd e (by decide), fun _ => ?_⟩
      refine ⟨fun e => absurd e (by decide), fun _ => ?_⟩
      refine ⟨fun e => absurd e (by decide), fun _ => ?_⟩
      refine ⟨fun e => absurd e (by decide), fun _ => ?_⟩
      refine ⟨fun e => absurd e (by decide), fun _ => ?_⟩
      refine ⟨fun e => absurd e (by decide), fun _ => ?_⟩
      refine ⟨fun e => absurd e (by decide), fun _ => ?_⟩
      refine ⟨fun e => absurd e (by decide), fun _ => ?_⟩
      refine ⟨fun e => absurd e (by decide), fun _ => ?_⟩
      refine ⟨fun e => absurd e (by decide), fun _ => ?_⟩
      refine ⟨fun e => absurd e (by decide), fun _ => ?_⟩
      refine ⟨fun e => absurd e (by decide), fun _ => ?_⟩
      refine ⟨fun e => absurd e (by decide), fun _ => ?_⟩
      refine ⟨fun e => absurd e (by decide), fun _ => ?_⟩
      refine ⟨fun e => absurd e (by decide), fun _ => ?_⟩
      refine ⟨fun e => absurd e (by decide), fun _ => ?_⟩
      refine ⟨fun e => absurd e (by decide), fun _ => ?_⟩
      refine ⟨fun e => absurd e (by decide), fun _ => ?_⟩
      exact hp3
  · have w1 := X1.wf
    have hp1 := hp y1 X1 Q1 R1 ⟨z, _, zz1, q1, b1⟩
    refine ⟨fun e => ⟨⟨_, Or.inl q1⟩, xl_equals w1 hG (k := 14) (by decide) q1 b1 ⟨fun eb => ⟨hp1, Or.inr ⟨told_no (i := 14) (by decide) e (of_decide_eq_false eb), rfl⟩⟩, fun eb => ⟨hp1, Or.inl ⟨by rw [of_decide_eq_true eb]; exact wd_mem (by decide), 2, by decide, rfl⟩⟩⟩⟩, fun m14 => ?_⟩
    refine ⟨fun e => ⟨⟨_, Or.inl q1⟩, xl_equals w1 hG (k := 9) (by decide) q1 b1 ⟨fun eb => ⟨hp1, Or.inr ⟨told_no (i := 9) (by decide) e (of_decide_eq_false eb), rfl⟩⟩, fun eb => ⟨hp1, Or.inl ⟨by rw [of_decide_eq_true eb]; exact wd_mem (by decide), 7, by decide, rfl⟩⟩⟩⟩, fun m9 => ?_⟩
    refine ⟨fun e => ⟨⟨_, Or.inl q1⟩, xl_equals w1 hG (k := 13) (by decide) q1 b1 ⟨fun eb => ⟨hp1, Or.inr ⟨told_no (i := 13) (by decide) e (of_decide_eq_false eb), rfl⟩⟩, fun eb => ⟨hp1, Or.inl ⟨by rw [of_decide_eq_true eb]; exact wd_mem (by decide), 10, by decide, rfl⟩⟩⟩⟩, fun m13 => ?_⟩
    refine ⟨fun e => ⟨⟨_, Or.inl q1⟩, xl_equals w1 hG (k := 17) (by decide) q1 b1 ⟨fun eb => ⟨hp1, Or.inr ⟨told_no (i := 17) (by decide) e (of_decide_eq_false eb), rfl⟩⟩, fun eb => ⟨hp1, Or.inl ⟨by rw [of_decide_eq_true eb]; exact wd_mem (by decide), 4, by decide, rfl⟩⟩⟩⟩, fun m17 => ?_⟩
    refine ⟨fun e => ⟨⟨_, Or.inl q1⟩, xl_equals w1 hG (k := 0) (by decide) q1 b1 ⟨fun eb => ⟨hp1, Or.inr ⟨told_no (i := 0) (by decide) e (of_decide_eq_false eb), rfl⟩⟩, fun eb => ⟨hp1, Or.inl ⟨by rw [of_decide_eq_true eb]; exact wd_mem (by decide), 16, by decide, rfl⟩⟩⟩⟩, fun m0 => ?_⟩
    refine ⟨fun e => ⟨⟨_, Or.inl q1⟩, xl_equals w1 hG (k := 1) (by decide) q1 b1 ⟨fun eb => ⟨hp1, Or.inr ⟨told_no (i := 1) (by decide) e (of_decide_eq_false eb), rfl⟩⟩, fun eb => ⟨hp1, Or.inl ⟨by rw [of_decide_eq_true eb]; exact wd_mem (by decide), 11, by decide, rfl⟩⟩⟩⟩, fun m1 => ?_⟩
    refine ⟨fun e => ⟨⟨_, Or.inl q1⟩, xl_equals w1 hG (k := 2) (by decide) q1 b1 ⟨fun eb => ⟨hp1, Or.inr ⟨told_no (i := 2) (by decide) e (of_decide_eq_false eb), rfl⟩⟩, fun eb => ⟨hp1, Or.inl ⟨by rw [of_decide_eq_true eb]; exact wd_mem (by decide), 5, by decide, rfl⟩⟩⟩⟩, fun m2 => ?_⟩
    refine ⟨fun e => ⟨⟨_, Or.inl q1⟩, xl_equals w1 hG (k := 6) (by decide) q1 b1 ⟨fun eb => ⟨hp1, Or.inr ⟨told_no (i := 6) (by decide) e (of_decide_eq_false eb), rfl⟩⟩, fun eb => ⟨hp1, Or.inl ⟨by rw [of_decide_eq_true eb]; exact wd_mem (by decide), 15, by decide, rfl⟩⟩⟩⟩, fun m6 => ?_⟩
    refine ⟨fun e => ⟨⟨_, Or.inl q1⟩, xl_equals w1 hG (k := 8) (by decide) q1 b1 ⟨fun eb => ⟨hp1, Or.inr ⟨told_no (i := 8) (by decide) e (of_decide_eq_false eb), rfl⟩⟩, fun eb => ⟨hp1, Or.inl ⟨by rw [of_decide_eq_true eb]; exact wd_mem (by decide), 13, by decide, rfl⟩⟩⟩⟩, fun m8 => ?_⟩
    refine ⟨fun e => ⟨⟨_, Or.inl q1⟩, xl_equals w1 hG (k := 12) (by decide) q1 b1 ⟨fun eb => ⟨hp1, Or.inr ⟨told_no (i := 12) (by decide) e (of_decide_eq_false eb), rfl⟩⟩, fun eb => ⟨hp1, Or.inl ⟨by rw [of_decide_eq_true eb]; exact wd_mem (by decide), 12, by decide, rfl⟩⟩⟩⟩, fun m12 => ?_⟩
    refine ⟨fun e => ⟨⟨_, Or.inl q1⟩, xl_equals w1 hG (k := 18) (by decide) q1 b1 ⟨fun eb => ⟨hp1, Or.inr ⟨told_no (i := 18) (by decide) e (of_decide_eq_false eb), rfl⟩⟩, fun eb => ⟨hp1, Or.inl ⟨by rw [of_decide_eq_true eb]; exact wd_mem (by decide), 19, by decide, rfl⟩⟩⟩⟩, fun m18 => ?_⟩
    refine ⟨fun e => ⟨⟨_, Or.inl q1⟩, xl_equals w1 hG (k := 5) (by decide) q1 b1 ⟨fun eb => ⟨hp1, Or.inr ⟨told_no (i := 5) (by decide) e (of_decide_eq_false eb), rfl⟩⟩, fun eb => ⟨hp1, Or.inl ⟨by rw [of_decide_eq_true eb]; exact wd_mem (by decide), 17, by decide, rfl⟩⟩⟩⟩, fun m5 => ?_⟩
    refine ⟨fun e => ⟨⟨_, Or.inl q1⟩, xl_equals w1 hG (k := 7) (by decide) q1 b1 ⟨fun eb => ⟨hp1, Or.inr ⟨told_no (i := 7) (by decide) e (of_decide_eq_false eb), rfl⟩⟩, fun eb => ⟨hp1, Or.inl ⟨by rw [of_decide_eq_true eb]; exact wd_mem (by decide), 9, by decide, rfl⟩⟩⟩⟩, fun m7 => ?_⟩
    refine ⟨fun e => ⟨⟨_, Or.inl q1⟩, xl_equals w1 hG (k := 11) (by decide) q1 b1 ⟨fun eb => ⟨hp1, Or.inr ⟨told_no (i := 11) (by decide) e (of_decide_eq_false eb), rfl⟩⟩, fun eb => ⟨hp1, Or.inl ⟨by rw [of_decide_eq_true eb]; exact wd_mem (by decide), 14, by decide, rfl⟩⟩⟩⟩, fun m11 => ?_⟩
    refine ⟨fun e => ⟨⟨_, Or.inl q1⟩, xl_equals w1 hG (k := 15) (by decide) q1 b1 ⟨fun eb => ⟨hp1, Or.inr ⟨told_no (i := 15) (by decide) e (of_decide_eq_false eb), rfl⟩⟩, fun eb => ⟨hp1, Or.inl ⟨by rw [of_decide_eq_true eb]; exact wd_mem (by decide), 1, by decide, rfl⟩⟩⟩⟩, fun m15 => ?_⟩
    refine ⟨fun e => ⟨⟨_, Or.inl q1⟩, xl_equals w1 hG (k := 16) (by decide) q1 b1 ⟨fun eb => ⟨hp1, Or.inr ⟨told_no (i := 16) (by decide) e (of_decide_eq_false eb), rfl⟩⟩, fun eb => ⟨hp1, Or.inl ⟨by rw [of_decide_eq_true eb]; exact wd_mem (by decide), 8, by decide, rfl⟩⟩⟩⟩, fun m16 => ?_⟩
    refine ⟨fun e => ⟨⟨_, Or.inl q1⟩, xl_equals w1 hG (k := 19) (by decide) q1 b1 ⟨fun eb => ⟨hp1, Or.inr ⟨told_no (i := 19) (by decide) e (of_decide_eq_false eb), rfl⟩⟩, fun eb => ⟨hp1, Or.inl ⟨by rw [of_decide_eq_true eb]; exact wd_mem (by decide), 3, by decide, rfl⟩⟩⟩⟩, fun m19 => ?_⟩
    refine ⟨fun e => ⟨⟨_, Or.inl q1⟩, xl_equals w1 hG (k := 4) (by decide) q1 b1 ⟨fun eb => ⟨hp1, Or.inr ⟨told_no (i := 4) (by decide) e (of_decide_eq_false eb), rfl⟩⟩, fun eb => ⟨hp1, Or.inl ⟨by rw [of_decide_eq_true eb]; exact wd_mem (by decide), 6, by decide, rfl⟩⟩⟩⟩, fun m4 => ?_⟩
    refine ⟨fun e => ⟨⟨_, Or.inl q1⟩, xl_equals w1 hG (k := 10) (by decide) q1 b1 ⟨fun eb => ⟨hp1, Or.inr ⟨told_no (i := 10) (by decide) e (of_decide_eq_false eb), rfl⟩⟩, fun eb => ⟨hp1, Or.inl ⟨by rw [of_decide_eq_true eb]; exact wd_mem (by decide), 18, by decide, rfl⟩⟩⟩⟩, fun m10 => ?_⟩
    refine ⟨fun e => ⟨⟨_, Or.inl q1⟩, xl_equals w1 hG (k := 3) (by decide) q1 b1 ⟨fun eb => ⟨hp1, Or.inr ⟨told_no (i := 3) (by decide) e (of_decide_eq_false eb), rfl⟩⟩, fun eb => ⟨hp1, Or.inl ⟨by rw [of_decide_eq_true eb]; exact wd_mem (by decide), 0, by decide, rfl⟩⟩⟩⟩, fun m3 => ?_⟩
    refine ⟨hp1, Or.inr ⟨told_none (fun j hj e => ?_), rfl⟩⟩
    rcases (by omega : j = 0 ∨ j = 1 ∨ j = 2 ∨ j = 3 ∨ j = 4 ∨ j = 5 ∨ j = 6 ∨ j = 7 ∨ j = 8 ∨ j = 9 ∨ j = 10 ∨ j = 11 ∨ j = 12 ∨ j = 13 ∨ j = 14 ∨ j = 15 ∨ j = 16 ∨ j = 17 ∨ j = 18 ∨ j = 19) with rfl | rfl | rfl | rfl | rfl | rfl | rfl | rfl | rfl | rfl | rfl | rfl | rfl | rfl | rfl | rfl | rfl | rfl | rfl | rfl
    · exact m0 e
    · exact m1 e
    · exact m2 e
    · exact m3 e
    · exact m4 e
    · exact m5 e
    · exact m6 e
    · exact m7 e
    · exact m8 e
    · exact m9 e
    · exact m10 e
    · exact m11 e
    · exact m12 e
    · exact m13 e
    · exact m14 e
    · exact m15 e
    · exact m16 e
    · exact m17 e
    · exact m18 e
    · exact m19 e
theorem px_name {G : GP} {y0 : HS} {n0 : Nat} {y : HS} {R e X tp op ln B : Nat} {ch : Option Nat} {bs : List Nat} {s : PS} {nn : Nat} {D : LM} {K : Nat → Nat} {g : EG} {gA : Nat → List Cn} {post : Option Nat → HS → Prop} {xp : Nat → Nat → HS → Prop} (hG : GK G) (h : PX G y0 n0 y R e X tp op ln ch bs s nn D K g gA) (hB : nameOk s = false → 1 ≤ B)
    (hp : ∀ y' q, nameOk s = true → PX G y0 n0 y' R e X tp op ln ch bs s nn D K g gA → Qs y y' → stW G y' q (pW s) → post (some q) y') (hx : nameOk s = false → ∀ q y', XF G R ln (8 * pAt s + 1) n0 y0 6 q y' → xp 6 q y') : wp_X6_name G B post xp y R := by
  refine ⟨fun y' u b r => u = 0 ∧ r = some R ∧ b = nameOk s ∧ PX G y0 n0 y' R e X tp op ln ch bs s nn D K g gA ∧ Qs y y' ∧ (nameOk s = true → ∃ q, fR y' R 4 4 (some q) ∧ stW G y' q (pW s)), ?_, fun y' u r => u = 0 ∧ r = some R ∧ nameOk s = false ∧ PX G y0 n0 y' R e X tp op ln ch bs s nn D K g gA ∧ Qs y y', ?_, ?_⟩
  · rintro y3 u6 b4 r5 ⟨rfl, rfl, rfl, P3, Q3, T3⟩
    refine ⟨Nat.zero_le _, R, rfl, P3.rdr, B, by omega, xp_must P3.1 hB (fun hb => ?_) (fun hb => hx hb)⟩
    obtain ⟨q, t1, t2⟩ := T3 hb
    obtain ⟨z, h0, zz, d1, d2⟩ := id t2
    exact ⟨some q, t1, fun a ha => (by cases ha; exact ⟨_, Or.inl d1⟩), hp y3 q hb P3 Q3 t2⟩
  · rintro y14 u16 r15 ⟨rfl, rfl, hno, P14, Q14⟩
    exact ⟨Nat.zero_le _, rfl, rfl, hno.symm, P14, Q14, fun z => (by rw [hno] at z; cases z)⟩
  · obtain ⟨tok, c1, c2, c3⟩ := h.1.tok
    refine ⟨tok, ⟨_, c1, rfl⟩, _, c2, fun hb => ⟨rfl, rfl, ?_, h, Qs.rf y⟩, fun hb => ?_⟩
    · exact decide_eq_false (fun z => of_decide_eq_false hb z.1)
    · have hk : pK s = 2 := of_decide_eq_true hb
      obtain ⟨q, z, hh, zz, d1, d2, d3, d4, d5⟩ := h.1.word hk
      have et : tok = some q := by
        have := Option.some.inj (c1.symm.trans d1)
        have e2 := (ob_inj.mp this).2
        injection e2 with _ e2
        injection e2 with _ e2
        injection e2 with _ e2
        injection e2 with _ e2
        injection e2 with e2 _
        exact va_rf_inj.mp e2
      subst et
      refine ⟨fun a ha => (by cases ha; exact ⟨_, Or.inl d2⟩), h.rdr, xp_isTold hG h.1 hk d1 d2 d3 d4 d5 (fun y' X' Q' R' S' => ⟨fun hb2 => ⟨rfl, rfl, ?_, h.q X' rfl Q', Q'⟩, fun hb2 => ⟨rfl, rfl, ?_, h.q X' rfl Q', Q', fun _ => ⟨q, ⟨_, R'.trans d1, rfl⟩, S'⟩⟩⟩)⟩
      · exact decide_eq_false (fun w => w.2 (of_decide_eq_true hb2))
      · exact (decide_eq_true ⟨hk, of_decide_eq_false hb2⟩).symm
/-- a chapter by its name -/
theorem sp_find {G : GP} {y : HS} {D : LM} {K : Nat → Nat} {e q : Nat} {E : Ed} {nn : Nat} {g : EG} {gA : Nat → List Cn} {w : List Nat} {post : Option Nat → HS → Prop} (hG : GK G) (hv : V G y D) (h : PE G y D K e E nn g gA) (hq : stW G y q w) (h0 : chI E w = (eCh E).length → post none y) (h1 : ∀ k (hk : k < (eCh E).length) (hk2 : k < (gXc g).length), chI E w = k → post (some (gXc g)[k]) y) : wp_X2_find G post y e (some q) := by
  obtain ⟨⟨c1, -⟩, -, -, h4, h5, h6, h7, h8⟩ := h
  obtain ⟨fs, hfs⟩ := hv.cell h4
  refine ⟨fun n y' x => y' = y ∧ ∃ k, x = nI k ∧ k ≤ (eCh E).length ∧ n = (eCh E).length - k ∧ ∀ j (hj : j < (eCh E).length), j < k → decide ((eCh E)[j].1 = w) = false, ⟨_, rfl, 0, rfl, Nat.zero_le _, rfl, fun j _ z => absurd z (Nat.not_lt_zero _)⟩, ?_⟩
  rintro n y' x ⟨rfl, k, rfl, hk, rfl, hno⟩
  refine ⟨_, ⟨_, c1, rfl⟩, _, rfl, ⟨fs, Or.inl hfs⟩, hv.size h4 ?_⟩
  rw [List.length_map, h6]
  refine ⟨fun hge => ?_, fun hlt => ?_⟩
  · have hkl := nle_of (by omega) hk hge
    refine h0 ?_
    have h3 := findIdx_no (xs := eCh E) (p := fun c => decide (c.1 = w)) (fun j hj => hno j hj (by omega))
    have h2 : (eCh E).findIdx (fun c => decide (c.1 = w)) ≤ (eCh E).length := List.findIdx_le_length
    unfold chI
    omega
  · have hk2 := nlt_of (by omega) hk hlt
    have hk3 : k < (gXc g).length := by rw [h6]; exact hk2
    obtain ⟨nm, l, la, ll, tr, d1, d2, -⟩ := h8 k hk2 hk3
    obtain ⟨z9, h9, zz9, d3, -⟩ := id d2
    refine ⟨_, ⟨_, c1, rfl⟩, _, rfl, ⟨fs, Or.inl hfs⟩, hv.get h4 (i := k) (by rw [List.length_map]; exact hk3) ?_⟩
    rw [List.getElem_map]
    refine ⟨fun a ha => (by cases ha; exact ⟨_, Or.inl d1⟩), _, rfl, _, ⟨_, d1, rfl⟩, nm, rfl, ⟨_, Or.inl d3⟩, st_equals hG hv.1 d2 hq ⟨fun hb => ⟨(eCh E).length - (k + 1), by omega, rfl, k + 1, by rw [nI_add], by omega, rfl, fun j hj hjk => ?_⟩, fun hb => ⟨_, ⟨_, c1, rfl⟩, _, rfl, ⟨fs, Or.inl hfs⟩, hv.get h4 (i := k) (by rw [List.length_map]; exact hk3) ?_⟩⟩⟩
    · by_cases hjk2 : j = k
      · subst hjk2; exact hb
      · exact hno j hj (by omega)
    · rw [List.getElem_map]
      refine ⟨fun a ha => (by cases ha; exact ⟨_, Or.inl d1⟩), h1 k hk2 hk3 ?_⟩
      exact findIdx_at (p := fun c => decide (c.1 = w)) hk2 hno hb
