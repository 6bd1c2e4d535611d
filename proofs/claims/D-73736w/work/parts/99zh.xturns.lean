/-! The component's reader: turns -/
set_option maxRecDepth 100000
/-- a row of numbers in the heap -/
def rowI (y : HS) (q : Nat) (vs : List Int32) : Prop := ∃ gq, y.1 q = some (ai 0 vs.length gq) ∧ ∀ j (h : j < vs.length), gq j = vs[j]
/-- what is no list is kept, and all below n0 -/
def Kn0 (n0 : Nat) (y y' : HS) : Prop := Kp y y' ∧ ∀ b, b < n0 → y'.1 b = y.1 b
theorem Kn0.tr {n0 : Nat} {y y1 y2 : HS} (h : Kn0 n0 y y1) (h2 : Kn0 n0 y1 y2) : Kn0 n0 y y2 := ⟨h.1.tr h2.1, fun b hb => (h2.2 b hb).trans (h.2 b hb)⟩
theorem Kn0.nw {n0 : Nat} {G : GP} {y : HS} {x : HE} (hw : WF G y) (hn : n0 ≤ y.2) : Kn0 n0 y (hnew y x) := ⟨Kp.new hw, fun b hb => by rw [hnew_ne (by omega)]⟩
theorem sp_turns {G : GP} {n0 : Nat} {y : HS} {D : LM} {K : Nat → Nat} {e B k w cq lo hi : Nat} {E : Ed} {g : EG} {gA : Nat → List Cn} {M : Nat → Bool} {L : List Nat × List Nat} {post : Option Nat → HS → Prop} (hG : GK G) (h : ENs G n0 y D K e E g gA M L) (hn0 : n0 ≤ y.2) (hk : k < (eCh E).length) (hcq : (gXc g)[k]? = some cq) (hw : w = 6 ∨ w = 7) (hA : (gA k).length ≤ 12 ∧ (atF 9 (gA k)).length ≤ 6) (hB : 10 ≤ B)
    (hp : ∀ y' q D' K', ENs G n0 y' D' K' e E g gA M L → Kn0 n0 y y' → y.2 ≤ y'.2 → y.2 ≤ q → rowI y' q (tns w (nI lo) (nI hi) (gA k)) → post (some q) y') : wp_X2_turns G B post y e (some cq) (some (gK G (wi w))) (nI lo) (nI hi) := by
  have hwf := h.1.1.1
  have f1 : D y.2 = none := h.1.1.fresh
  refine ⟨by omega, ?_⟩
  rintro a2 rfl y1 hy1
  have E1 : ENs G n0 y1 D K e E g gA M L := by rw [hy1]; exact h.nw
  have K1 : Kn0 n0 y y1 := by rw [hy1]; exact Kn0.nw hwf hn0
  have n1 : y1.2 = y.2 + 1 := by rw [hy1]; rfl
  refine E1.1.init f1 hn0 (by rw [hy1, hnew_at]) (fun y3 v3 o3 z3 kp3 c3 k3 => ?_)
  have E3 : ENs G n0 y3 (va_up D y.2 (some [])) (lb K y.2 100) e E g gA M L := E1.st v3 kp3.pks k3.one (KD.new f1)
  refine ⟨1, by omega, sp_valueOf v3.1.1 (Or.inr (Nat.le_refl _)) (fun r5 y4 w4 kp4 c4 n4 f4 hb4 => ?_)⟩
  have Q4 : Qs y3 y4 := Qs.up v3.1.1 f4 n4
  have E4 : ENs G n0 y4 (va_up D y.2 (some [])) (lb K y.2 100) e E g gA M L := E3.st (Q4.v2 v3 w4) Q4.pks (Q4.kf v3.1).one (KD.rf _ _ _)
  have hT4 : va_up D y.2 (some []) y.2 = some [] := up_at _ _ _
  obtain ⟨fsT, hfT⟩ := E4.1.1.cell hT4
  refine ⟨⟨fsT, Or.inl hfT⟩, 1, by omega, E4.1.add (by omega) hT4 (by decide) hb4.ok (by decide) (fun y7 v7 kp7 c7 n7 kf7 b7 => ?_)⟩
  rw [up_up] at v7 kf7
  have hKT : 100 ≤ lb K y.2 100 y.2 := by rw [lb_at]; omega
  have E7 : ENs G n0 y7 (va_up D y.2 (some ([] ++ [r5]))) (lb K y.2 100) e E g gA M L := by
    refine E4.st v7 kp7.pks kf7.one ?_
    have := KD.up (v := 1000) (D := va_up D y.2 (some [])) (w := some ([] ++ [r5])) hKT
    rw [up_up] at this
    exact this
  have K7 : Kn0 n0 y y7 := ((K1.tr ⟨kp3, fun b hb => o3 b (by omega)⟩).tr ⟨kp4, fun b hb => f4 b (by omega)⟩).tr ⟨kp7, b7⟩
  have BX7 : BX G y7 ([] ++ [r5]) (tns w (nI lo) (nI hi) ((gA k).take 0)) := by
    show All2 (bx G y7) [r5] [nI lo]
    exact All2.snoc All2.nil (hb4.kp kp7)
  -- the atoms, one by one
  have cnt : ∀ j, (tns w (nI lo) (nI hi) ((gA k).take j)).length ≤ 7 := fun j => by
    show ((((gA k).take j).filter (tIn w (nI lo) (nI hi))).map tAt).length + 1 ≤ 7
    rw [List.length_map]
    have e1 : (((gA k).take j).filter (tIn w (nI lo) (nI hi))).length ≤ (atF 9 (gA k)).length := by
      unfold atF
      have s1 : (((gA k).take j).filter (tIn w (nI lo) (nI hi))).Sublist ((gA k).filter (tIn w (nI lo) (nI hi))) := (List.take_sublist _ _).filter _
      have s2 : ∀ l : List Cn, (l.filter (tIn w (nI lo) (nI hi))).length ≤ (l.filter (fun c => decide (c.1 < 6) == decide (9 < 6))).length := fun l => by
        rw [← List.countP_eq_length_filter, ← List.countP_eq_length_filter]
        refine List.countP_mono_left (fun c _ hc => ?_)
        unfold tIn at hc
        rw [Bool.and_eq_true] at hc
        have : c.1 = w := of_decide_eq_true hc.1
        rw [decide_eq_false (show ¬ c.1 < 6 by omega)]
        rfl
      exact Nat.le_trans s1.length_le (s2 _)
    omega
  refine ⟨fun n y' u x => ∃ j bs', j ≤ (gA k).length ∧ n = (gA k).length - j ∧ x = nI j ∧ u + 1 ≤ 3 + (tns w (nI lo) (nI hi) ((gA k).take j)).length ∧ ENs G n0 y' (va_up D y.2 (some bs')) (lb K y.2 100) e E g gA M L ∧ Kn0 n0 y y' ∧ y.2 ≤ y'.2 ∧ BX G y' bs' (tns w (nI lo) (nI hi) ((gA k).take j)), ⟨_, 0, [] ++ [r5], Nat.zero_le _, rfl, rfl, by show 0 + 1 + 1 + 1 + 1 ≤ 3 + 1; omega, E7, K7, by omega, BX7⟩, ?_⟩
  rintro n12 y13 u17 x16 ⟨j, bs', hj, rfl, rfl, hu, E13, K13, n13, B13⟩
  obtain ⟨cq', nm, l, la, ll, tr, xs, g1, g2, g3, g4, -, -, g7, -⟩ := E13.chap hk
  rw [hcq] at g1
  cases g1
  obtain ⟨fsA, hfA⟩ := E13.1.1.cell g3
  have hlA := g4.1
  have cj := cnt j
  refine ⟨by omega, cq, rfl, _, ⟨_, g2, rfl⟩, la, rfl, ⟨fsA, Or.inl hfA⟩, E13.1.1.size g3 ?_⟩
  rw [hlA]
  refine ⟨fun hge => ?_, fun hlt => ?_⟩
  · have hjl := nle_of (by omega) hj hge
    rw [List.take_of_length_le (by omega)] at B13 hu
    have hT : va_up D y.2 (some bs') y.2 = some bs' := up_at _ _ _
    obtain ⟨fsT2, hfT2⟩ := E13.1.1.cell hT
    have hlb := B13.1
    have c12 := cnt (gA k).length
    rw [List.take_of_length_le (Nat.le_refl _)] at c12
    have hd20' : bs'.length / 20 = 0 := by omega
    refine ⟨⟨fsT2, Or.inl hfT2⟩, E13.1.1.size hT ⟨bs'.length, rfl, by omega, by omega, ?_⟩⟩
    rintro a30 rfl y29 hy29
    have E29 : ENs G n0 y29 (va_up D y.2 (some bs')) (lb K y.2 100) e E g gA M L := by rw [hy29]; exact E13.nw
    have K29 : Kn0 n0 y y29 := K13.tr (by rw [hy29]; exact Kn0.nw E13.1.1.1 (by omega))
    have a29 : y29.1 y13.2 = some (ai 0 bs'.length (fun _ => 0)) := by rw [hy29, hnew_at]
    have B29 : BX G y29 bs' (tns w (nI lo) (nI hi) (gA k)) := All2.imp B13 (fun _ _ z => z.kp (by rw [hy29]; exact Kp.new E13.1.1.1))
    have n29 : y29.2 = y13.2 + 1 := by rw [hy29]; rfl
    have hd20 : bs'.length / 20 = 0 := by omega
    refine ⟨fun n y' u x => ∃ i gq, i ≤ bs'.length ∧ n = bs'.length - i ∧ x = nI i ∧ u = u17 + (1 + bs'.length / 20) ∧ ENs G n0 y' (va_up D y.2 (some bs')) (lb K y.2 100) e E g gA M L ∧ Kn0 n0 y y' ∧ y.2 ≤ y'.2 ∧ y'.1 y13.2 = some (ai 0 bs'.length gq) ∧ BX G y' bs' (tns w (nI lo) (nI hi) (gA k)) ∧ ∀ i' (h1 : i' < (tns w (nI lo) (nI hi) (gA k)).length), i' < i → gq i' = (tns w (nI lo) (nI hi) (gA k))[i'], ⟨_, 0, _, Nat.zero_le _, rfl, rfl, rfl, E29, K29, by omega, a29, B29, fun i' _ z => absurd z (Nat.not_lt_zero _)⟩, ?_⟩
    rintro n33 y34 u38 x37 ⟨i, gq, hib, rfl, rfl, rfl, E34, K34, n34, a34, B34, hg34⟩
    refine ⟨by omega, _, gq, Or.inl a34, fun hge2 => ?_, fun hlt2 => ?_⟩
    · have hil := nle_of (by omega) hib hge2
      refine hp y34 y13.2 _ _ E34 K34 n34 n13 ⟨gq, by rw [← hlb]; exact a34, fun i' h1 => hg34 i' h1 (by omega)⟩
    · have hi2 := nlt_of (by omega) hib hlt2
      obtain ⟨fsT3, hfT3⟩ := E34.1.1.cell hT
      obtain ⟨qb, e1, e2⟩ := B34.2 i hi2 (by omega)
      refine ⟨⟨fsT3, Or.inl hfT3⟩, E34.1.1.get hT hi2 ⟨fun z hz => ?_, qb, e1, ⟨_, e2⟩, sp_intValue e2 ⟨_, gq, a34, vp_inN hi2 (by omega), fun y52 hy52 => ?_⟩⟩⟩
      · rw [e1] at hz; cases hz; exact ⟨_, e2⟩
      · have kp52 : ∀ b x, y34.1 b = some x → b ≠ y13.2 → y52.1 b = some x := fun b x hb hne => by rw [hy52, hput_ne hne]; exact hb
        have E52 : ENs G n0 y52 (va_up D y.2 (some bs')) (lb K y.2 100) e E g gA M L := by
          have hne : ∀ b x, y34.1 b = some x → (∀ n g, x ≠ ai 0 n g) → y52.1 b = some x := fun b x hb hx => kp52 b x hb (fun ee => by rw [ee, a34] at hb; exact hx _ _ (Option.some.inj hb).symm)
          have hls : ∀ b e, y34.1 b = some e → isLs e = true → y52.1 b = some e := fun b z hb hz => hne b z hb (fun n g w => by subst w; cases hz)
          have hcl : Cls y34 y52 := fun b c fs hb => ⟨fs, hne b _ hb (fun _ _ z => ob_ne_ai z)⟩
          have w52 : WF G y52 := by rw [hy52]; exact E34.1.1.1.put a34
          -- arrays of numbers are no part of an edition
          refine E34.st (E34.1.step w52 hls hcl) ⟨fun b x hb hx => ?_, fun b x hb hx => hne b x hb (fun n g w => ?_), fun b z h0 zz hb => ⟨h0, zz, hne b _ hb (fun _ _ z => ob_ne_ai z)⟩⟩ (KF.step hls (fun a xs hd => E34.1.1.cell hd)).one (KD.rf _ _ _)
          · refine hne b x hb (fun n g w => ?_)
            subst w
            rcases hx with ⟨c', v, gs', z1, -⟩ | ⟨u1, u2, u3, u4, z1, -⟩ | ⟨t, n, g', z1, z2, -⟩
            · exact ai_ne_ob z1
            · exact ai_ne_ob z1
            · injection z1 with z1
              injection z1 with z1 _
              omega
          · subst w
            rcases hx with ⟨gs, z1⟩ | ⟨v, gs, z1, -⟩ | ⟨n9, g9, z1⟩ | ⟨n9, g9, z1⟩ | ⟨gs, z1⟩
            · exact ai_ne_ob z1
            · exact ai_ne_ob z1
            · simp [ar, ai] at z1
            · injection z1 with z1
              injection z1 with z1 _
              exact absurd z1 (by decide)
            · exact ai_ne_ob z1
        have K52 : Kn0 n0 y y52 := ⟨fun b x hb hx => kp52 b x (K34.1 b x hb hx) (by have := hwf.lt hb; omega), fun b hb => by rw [hy52, hput_ne (by omega)]; exact K34.2 b hb⟩
        have B52 : BX G y52 bs' (tns w (nI lo) (nI hi) (gA k)) := All2.imp B34 (fun r v z => by
          obtain ⟨q, z1, z2⟩ := z
          refine ⟨q, z1, ?_⟩
          rcases z2 with z2 | z2
          · exact Or.inl (kp52 _ _ z2 (fun ee => by rw [ee, a34] at z2; exact ai_ne_ob (Option.some.inj z2)))
          · exact Or.inr z2)
        refine ⟨bs'.length - (i + 1), by omega, i + 1, upd gq (nI i).toNatClampNeg _, by omega, rfl, by rw [nI_add], rfl, E52, K52, by rw [hy52]; exact n34, by rw [hy52, hput_at], B52, fun i' h1 hii => ?_⟩
        rw [nI_clamp (by omega)]
        unfold upd
        by_cases ee : i' = i
        · subst ee
          rw [if_pos rfl]
        · rw [if_neg ee]
          exact hg34 i' h1 (by omega)
  · have hj2 := nlt_of (by omega) hj hlt
    obtain ⟨q, e1, e2⟩ := g4.2 j (by omega) hj2
    have e3 := e2
    obtain ⟨w9, z9, sp9, sg9, nb9, d1, d2, d3, l3, l9, d6, d7⟩ := e3
    have ht' : tns w (nI lo) (nI hi) ((gA k).take (j + 1)) = if tIn w (nI lo) (nI hi) (gA k)[j] = true then tns w (nI lo) (nI hi) ((gA k).take j) ++ [tAt (gA k)[j]] else tns w (nI lo) (nI hi) ((gA k).take j) := by rw [take_snocA hj2, tns_snoc]
    have same : tIn w (nI lo) (nI hi) (gA k)[j] = false → ∃ n67, n67 < (gA k).length - j ∧ ∃ j' bs'', j' ≤ (gA k).length ∧ n67 = (gA k).length - j' ∧ nI j + nI 1 = nI j' ∧ u17 + 1 ≤ 3 + (tns w (nI lo) (nI hi) ((gA k).take j')).length ∧ ENs G n0 y13 (va_up D y.2 (some bs'')) (lb K y.2 100) e E g gA M L ∧ Kn0 n0 y y13 ∧ y.2 ≤ y13.2 ∧ BX G y13 bs'' (tns w (nI lo) (nI hi) ((gA k).take j')) := fun hf => by
      rw [if_neg (nz hf)] at ht'
      exact ⟨(gA k).length - (j + 1), by omega, j + 1, bs', by omega, rfl, nI_add j 1, by rw [ht']; exact hu, E13, K13, n13, by rw [ht']; exact B13⟩
    refine ⟨fun y58 u61 r59 x60 => y58 = y13 ∧ u61 = u17 ∧ r59 = some q ∧ (6 ≤ (gA k)[j].1 → x60 = tAt (gA k)[j]), ?_, _, ⟨_, g2, rfl⟩, la, rfl, ⟨fsA, Or.inl hfA⟩, E13.1.1.get g3 (i := j) (by omega) ⟨fun z hz => ?_, q, e1, sg9, ⟨_, d1, rfl⟩, fun hne => ⟨nb9, ⟨_, d1, rfl⟩, rfl, rfl, rfl, fun h6 => ?_⟩, fun heq => ⟨nb9, ⟨_, d1, rfl⟩, rfl, rfl, rfl, fun h6 => ?_⟩⟩⟩
    · rintro y58 u61 r59 x60 ⟨rfl, rfl, rfl, hx60⟩
      refine ⟨by omega, q, rfl, ⟨_, Or.inl d1⟩, sp_ofCodes e2 ⟨fun hb => same ?_, fun hb => ⟨_, ⟨_, d1, rfl⟩, w9, rfl, ⟨_, Or.inl d2⟩, xl_equals E13.1.1.1 hG (wi_lt w) d2 d3 ⟨fun hb2 => same ?_, fun hb2 => sp_within ⟨fun hb3 => same ?_, fun hb3 => ?_⟩⟩⟩⟩⟩
      · have hc6 : (gA k)[j].1 < 6 := of_decide_eq_true hb
        unfold tIn
        rw [decide_eq_false (show ¬ (gA k)[j].1 = w by omega)]; rfl
      · unfold tIn
        rw [decide_eq_false (show ¬ (gA k)[j].1 = w from fun z => of_decide_eq_false hb2 (by rw [z])) ]; rfl
      · have hc6 : ¬ (gA k)[j].1 < 6 := of_decide_eq_false hb
        unfold tIn
        rw [← hx60 (by omega), hb3, Bool.and_false]
      · have hc6 : ¬ (gA k)[j].1 < 6 := of_decide_eq_false hb
        have hcw : (gA k)[j].1 = w := wi_inj _ l9 w (by omega) (of_decide_eq_true hb2)
        have hti : tIn w (nI lo) (nI hi) (gA k)[j] = true := by
          unfold tIn
          rw [← hx60 (by omega), decide_eq_true hcw, hb3]; rfl
        rw [if_pos hti] at ht'
        have cj1 := cnt (j + 1)
        rw [ht', List.length_append, List.length_singleton] at cj1
        refine ⟨1, by omega, sp_valueOf E13.1.1.1 (Or.inr (Nat.le_refl _)) (fun r80 y79 w79 kp79 c79 n79 f79 hb79 => ?_)⟩
        have Q79 : Qs y58 y79 := Qs.up E13.1.1.1 f79 n79
        have E79 : ENs G n0 y79 (va_up D y.2 (some bs')) (lb K y.2 100) e E g gA M L := E13.st (Q79.v2 E13.1 w79) Q79.pks (Q79.kf E13.1.1).one (KD.rf _ _ _)
        have hT79 : va_up D y.2 (some bs') y.2 = some bs' := up_at _ _ _
        obtain ⟨fs79, hf79⟩ := E79.1.1.cell hT79
        have hlb := B13.1
        have hl1 : 1 ≤ (tns w (nI lo) (nI hi) ((gA k).take j)).length := by
          show 1 ≤ ((((gA k).take j).filter (tIn w (nI lo) (nI hi))).map tAt).length + 1
          omega
        have hg0 : gco bs'.length = 0 := by unfold gco; rw [if_neg (by omega), if_pos (by omega)]
        refine ⟨⟨fs79, Or.inl hf79⟩, 0, by omega, E79.1.add (by omega) hT79 (by omega) hb79.ok (by omega) (fun y82 v82 kp82 c82 n82 kf82 b82 => ?_)⟩
        rw [up_up] at v82 kf82
        have E82 : ENs G n0 y82 (va_up D y.2 (some (bs' ++ [r80]))) (lb K y.2 100) e E g gA M L := by
          refine E79.st v82 kp82.pks kf82.one ?_
          have := KD.up (v := 1000) (D := va_up D y.2 (some bs')) (w := some (bs' ++ [r80])) hKT
          rw [up_up] at this
          exact this
        refine ⟨(gA k).length - (j + 1), by omega, j + 1, bs' ++ [r80], by omega, rfl, nI_add j 1, ?_, E82, (K13.tr ⟨kp79, fun b hb => f79 b (by omega)⟩).tr ⟨kp82, b82⟩, by omega, ?_⟩
        · rw [ht', List.length_append, List.length_singleton]; omega
        · rw [ht', hx60 (by omega) |>.symm]
          exact All2.snoc (All2.imp B13 (fun _ _ z => (z.kp kp79).kp kp82)) (hb79.kp kp82)
    · rw [e1] at hz; cases hz; exact ⟨_, Or.inl d1⟩
    · obtain ⟨-, s1, s2, s3⟩ := d7 h6
      unfold tAt
      rw [s2, if_neg (fun z => hne (by rw [s1, if_pos z]))]
    · obtain ⟨-, s1, s2, s3⟩ := d7 h6
      have hz0 : (gA k)[j].2.1 = 0 := Classical.byContradiction fun z => by
        rw [if_neg z] at s1
        rw [s1] at heq
        exact absurd heq (by decide)
      unfold tAt
      rw [s2, if_pos hz0]
