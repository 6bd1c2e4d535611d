/-! The component's reader: the leaves are listed, all is tried -/
set_option maxRecDepth 100000
theorem ENs.grow {G : GP} {n0 : Nat} {y y' : HS} {D D' : LM} {K K' : Nat → Nat} {e v : Nat} {E : Ed} {g : EG} {gA : Nat → List Cn} {M : Nat → Bool} {L L' : List Nat × List Nat} (h : ENs G n0 y D K e E g gA M L) (hv : V2 G n0 y' D') (kp : PKs y y') (kf : KF1 y D y' D') (hv45 : v = 4 ∨ v = 5) (kd : KD v D K D' K') (q4 : D' (gLs g).2.2.2.1 = some (L'.1.map (fun n => some (gNa g n)))) (q5 : D' (gLs g).2.2.2.2.1 = some (L'.2.map (fun n => some ((gXc g).getD (chOf E n) 0)))) : ENs G n0 y' D' K' e E g gA M L' := by
  obtain ⟨h1, h2, h3, h4, ⟨k1, k2, k3, k4, k5⟩, ⟨p4, p5, p6, p7, p8⟩, h7, h8, h9, h10⟩ := h
  obtain ⟨c1, ⟨xs, a1, a2⟩, ⟨ys, b1, b2⟩, ⟨gn, d1, d2, d3⟩, ⟨gw, f1, f2⟩, c5⟩ := h2
  obtain ⟨r1, s1⟩ := kd _ _ p4 (by omega)
  obtain ⟨r2, s2⟩ := kd _ _ a1 (by omega)
  obtain ⟨r3, s3⟩ := kd _ _ b1 (by omega)
  obtain ⟨r4, s4⟩ := kd _ _ h9 (by omega)
  obtain ⟨r5, s5⟩ := kd _ _ h10 (by omega)
  have hv0 : v ≠ 0 := by omega
  refine ⟨hv, ⟨kp.2.1 _ _ c1 (Or.inl ⟨_, rfl⟩), ⟨xs, s2 (by omega), All2.imp a2 (fun _ _ z => z.pk kp.1)⟩, ⟨ys, s3 (by omega), All2.imp b2 (fun _ _ z => z.pk kp.1 (kd.df hv0))⟩, ⟨gn, kp.2.1 _ _ d1 (Or.inr (Or.inr (Or.inl ⟨_, _, rfl⟩))), fun i hi => ?_, d3⟩, ⟨gw, kp.2.1 _ _ f1 (Or.inr (Or.inr (Or.inr (Or.inl ⟨_, _, rfl⟩)))), f2⟩, c5⟩, fun d r i z => (h3 d r i z).pk kp.1 (kd.df hv0) (fun _ _ z => z) (fun _ _ _ z => z), fun d r n z => ⟨(h4 d r n z).1.pk kp.1 (kp.k11 r) kf (fun _ z => z) (fun _ _ _ z => z) (fun _ _ _ z => z), (h4 d r n z).2⟩, ⟨r1.trans k1, r2.trans k2, r3.trans k3, r4.trans k4, r5.trans k5⟩, ⟨s1 (by omega), p5, p6, p7, fun k a b => chP.st (by omega) (p8 k a b) kp kd (by omega) rfl rfl (fun _ _ _ z => z)⟩, fun n x z1 z2 => kp.k11 _ _ (h7 n x z1 z2), h8, q4, q5⟩
  obtain ⟨q, z1, z2⟩ := d2 i hi
  exact ⟨q, z1, z2.pk kp.1⟩
def lpre (E : Ed) (c : Nat) : List Nat := (List.range c).flatMap (lfs E)
theorem lpre_succ (E : Ed) (c : Nat) : lpre E (c + 1) = lpre E c ++ lfs E c := by
  unfold lpre
  rw [List.range_succ, List.flatMap_append]
  simp
theorem lpre_le (E : Ed) (c : Nat) : ∀ d, (lpre E c).length ≤ (lpre E (c + d)).length
  | 0 => Nat.le_refl _
  | d + 1 => by
    have := lpre_le E c d
    rw [show c + (d + 1) = (c + d) + 1 from rfl, lpre_succ, List.length_append]
    omega
theorem lpre_40 {E : Ed} {c : Nat} (h : (eNd E).length ≤ 40) (hc : c ≤ (eCh E).length) : (lpre E c).length ≤ 40 := by
  have h1 := lpre_le E c ((eCh E).length - c)
  rw [show c + ((eCh E).length - c) = (eCh E).length by omega] at h1
  have := lvs_40 h
  rw [lvs_lfs] at this
  exact Nat.le_trans h1 this
theorem lfs_mem {E : Ed} {c n : Nat} (h : n ∈ lfs E c) : ∃ x : Nd, (eNd E)[n]? = some x ∧ ¬ x.1 < 0 ∧ x.2.2.2.2 = c := by
  have h2 := (List.mem_filter.mp h).2
  cases e : (eNd E)[n]? with
  | none => rw [e] at h2; cases h2
  | some x =>
    rw [e] at h2
    have h3 : (!(decide (x.1 < 0)) && decide (x.2.2.2.2 = c)) = true := h2
    rw [Bool.and_eq_true] at h3
    exact ⟨x, rfl, of_decide_eq_false (by simpa using h3.1), of_decide_eq_true h3.2⟩
theorem atF_len : ∀ (A : List Cn), A.length = (atF 0 A).length + (atF 9 A).length
  | [] => rfl
  | a :: A => by
    have := atF_len A
    unfold atF at this ⊢
    by_cases z : a.1 < 6
    · rw [List.filter_cons_of_pos (by rw [decide_eq_true z]; rfl), List.filter_cons_of_neg (by rw [decide_eq_true z]; decide)]
      simp only [List.length_cons]
      omega
    · rw [List.filter_cons_of_neg (by rw [decide_eq_false z]; decide), List.filter_cons_of_pos (by rw [decide_eq_false z]; rfl)]
      simp only [List.length_cons]
      omega
theorem sgOk_of {G : GP} {y : HS} {xs : List (Option Nat)} {A : List Cn} (h : All2 (atL G y) xs A) : sgOk A := fun k hk => by
  obtain ⟨j, hj, rfl⟩ := List.mem_iff_getElem.mp hk
  obtain ⟨q, -, w9, z9, sp9, sg9, nb9, d1, d2, d3, l3, l9, d6, d7⟩ := h.2 j (by have := h.1; omega) hj
  exact ⟨l3, l9, fun z => (d7 z).2.2.2⟩
theorem gco_40 {n : Nat} (h : n < 40) : gco n ≤ 4 := by
  unfold gco
  split
  · omega
  · split
    · omega
    · omega
theorem sp_ends {G : GP} {n0 : Nat} {y : HS} {D : LM} {K : Nat → Nat} {e B : Nat} {E : Ed} {g : EG} {gA : Nat → List Cn} {ct : Nat → Nat} {post : HS → Prop} (hG : GK G) (h : ENs G n0 y D K e E g gA (fun _ => false) ([], [])) (hn0 : n0 ≤ y.2) (hok : EdOk E) (hct : EdCt E ct) (h400 : (eCn E).length ≤ 400) (h40 : (eNd E).length ≤ 40) (hNa : ∀ n, n < (eNd E).length → n0 ≤ gNa g n) (htk : ∀ k, k < (eCh E).length → trk E (gA k) k) (hB : 450 ≤ B) (hp : ∀ y' D' K', ENs G n0 y' D' K' e E g gA (rch E) (lvs E, lvs E) → Fr4 n0 y y' → y.2 ≤ y'.2 → post y') : wp_X2_ends G B post y e := by
  have ho := hok.1.ok h400
  have hn := hok.2.1
  have h6 : (eCh E).length ≤ 6 := h.2.2.2.2.2.1.2.2.2.1
  refine ⟨fun n y' u x => ∃ c D' K' M', c ≤ (eCh E).length ∧ n = (eCh E).length - c ∧ x = nI c ∧ u ≤ 8 * (lpre E c).length + 21 * c ∧ ENs G n0 y' D' K' e E g gA M' (lpre E c, lpre E c) ∧ Fr4 n0 y y' ∧ y.2 ≤ y'.2 ∧ (∀ n, M' n = true → rchP E n) ∧ ∀ c' (h : c' < (eCh E).length), c' < c → ∀ an age day lv tp, an < 64 → age ≤ 120 → 1 ≤ day → day ≤ 400 → lv ≤ 3 → tp ≤ 9 → M' (gn (evB (nI an) (nI age) (nI day) (nI lv) (nI tp)) (eNd E) (eCn E) 40 (ix (eCh E)[c'].2.2)).1 = true, ⟨_, 0, D, K, fun _ => false, Nat.zero_le _, rfl, rfl, Nat.zero_le _, h, Fr4.rf _ _, Nat.le_refl _, fun _ z => (by cases z), fun c' _ z => absurd z (Nat.not_lt_zero _)⟩, ?_⟩
  rintro n2 y3 u7 x6 ⟨c, D1, K1, M1, hc, rfl, rfl, hu, E3, F3, n3, sd, cm⟩
  have l40 := lpre_40 h40 hc
  have hch := E3.2.2.2.2.2.1.1
  have hxl := E3.2.2.2.2.2.1.2.2.1
  obtain ⟨fsC, hfC⟩ := E3.1.1.cell hch
  refine ⟨by omega, _, ⟨_, E3.2.1.1, rfl⟩, _, rfl, ⟨fsC, Or.inl hfC⟩, E3.1.1.size hch ?_⟩
  rw [List.length_map, hxl]
  refine ⟨fun hge => ?_, fun hlt => ?_⟩
  · have hcl := nle_of (by omega) hc hge
    have hM : M1 = rch E := funext fun n => by
      cases hr : M1 n with
      | true => exact (rch_iff.mpr (sd n hr)).symm
      | false =>
        cases hr2 : rch E n with
        | false => rfl
        | true =>
          obtain ⟨c', hc', an, age, day, lv, tp, b1, b2, b3, b4, b5, b6, b7⟩ := rch_iff.mp hr2
          have := cm c' hc' (by omega) an age day lv tp b1 b2 b3 b4 b5 b6
          rw [b7, hr] at this
          cases this
    subst hM
    have hL : lpre E c = lvs E := by rw [hcl, lvs_lfs]; rfl
    rw [hL] at E3
    exact hp y3 _ _ E3 F3 n3
  · have hc2 := nlt_of (by omega) hc hlt
    have hcx : c < (gXc g).length := by omega
    have hcq : (gXc g)[c]? = some (gXc g)[c] := List.getElem?_eq_getElem hcx
    refine ⟨_, ⟨_, E3.2.1.1, rfl⟩, _, rfl, ⟨fsC, Or.inl hfC⟩, E3.1.1.get hch (i := c) (by rw [List.length_map]; exact hcx) ?_⟩
    rw [List.getElem_map]
    have l41 := lpre_40 h40 (show c + 1 ≤ (eCh E).length by omega)
    rw [lpre_succ, List.length_append] at l41
    refine ⟨fun z hz => ?_, fun n y' u x => ∃ i D' K', i ≤ (lfs E c).length ∧ n = (lfs E c).length - i ∧ x = nI i ∧ u ≤ 8 * ((lpre E c).length + i) + 21 * c ∧ ENs G n0 y' D' K' e E g gA M1 (lpre E c ++ (lfs E c).take i, lpre E c ++ (lfs E c).take i) ∧ Fr4 n0 y y' ∧ y.2 ≤ y'.2, ⟨_, 0, D1, K1, Nat.zero_le _, rfl, rfl, hu, by rw [List.take_zero, List.append_nil]; exact E3, F3, n3⟩, ?_⟩
    · cases hz
      obtain ⟨cq', nm, l, la, ll, tr, xs, g1, g2, -⟩ := E3.chap hc2
      rw [hcq] at g1
      cases g1
      exact ⟨_, Or.inl g2⟩
    · rintro n21 y22 u26 x25 ⟨i, D2, K2, hi, rfl, rfl, hu2, E22, F22, n22⟩
      obtain ⟨cq', nm, l, la, ll, tr, xs, g1, g2, g3, g4, g5, gtr, g7, g8⟩ := E22.chap hc2
      rw [hcq] at g1
      cases g1
      obtain ⟨fsL, hfL⟩ := E22.1.1.cell g5
      refine ⟨by omega, _, rfl, _, ⟨_, g2, rfl⟩, ll, rfl, ⟨fsL, Or.inl hfL⟩, E22.1.1.size g5 ?_⟩
      rw [List.length_map]
      refine ⟨fun hge2 => ?_, fun hlt2 => ?_⟩
      · have hil := nle_of (by omega) hi hge2
        have e1 : lpre E c ++ (lfs E c).take i = lpre E (c + 1) := by rw [lpre_succ, List.take_of_length_le (by omega)]
        rw [e1] at E22
        have ht := htk c hc2
        have hal := atF_len (gA c)
        have ha0 := ht.1.1 0
        have ha9 := ht.1.1 9
        have htr : (eCh E)[c].2.2 ≠ -1 := fun z => by
          obtain ⟨r, r1, r2⟩ := hok.2.2.1 _ (List.getElem_mem hc2)
          rw [r1] at z
          have := congrArg Int32.toInt z
          rw [nI_toInt (by omega)] at this
          have e2 : (-1 : Int32).toInt = -1 := by decide
          omega
        refine ⟨⟨_, Or.inl E22.2.1.1⟩, 21, by omega, sp_tries hG E22 (by omega) ho hn h40 hNa hc2 hcq htr ⟨by omega, ha9, ha0⟩ (Nat.le_refl _) (fun y35 D5 K5 M5 E35 F35 n35 m35 s35 a35 => ?_)⟩
        have p64 := pow_le6 _ ha0
        refine ⟨(eCh E).length - (c + 1), by omega, c + 1, D5, K5, M5, by omega, rfl, nI_add c 1, ?_, E35, F22.tr F35, by omega, fun n hm => ?_, fun c' hc' hlc an age day lv tp b1 b2 b3 b4 b5 b6 => ?_⟩
        · rw [lpre_succ, List.length_append]
          omega
        · rcases s35 n hm with hm | ⟨an, t1, t2, lv, tp, b1, b2, b3, b4, b5, b6⟩
          · exact sd n hm
          · obtain ⟨v1, rfl, v2, v3⟩ := tns_in (by omega) (by omega) b2
            obtain ⟨w1, rfl, w2, w3⟩ := tns_in (by omega) (by omega) b3
            exact ⟨c, hc2, an, v1, w1, lv, tp, by omega, v3, w2, w3, b4, b5, b6.symm⟩
        · by_cases hcc : c' = c
          · subst hcc
            obtain ⟨an', t1, t2, q1, q2, q3, q4⟩ := tried_all (lv := lv) (tp := tp) ho hct ht (sgOk_of g4) hc2 b1 b2 b3 b4
            rw [← q4]
            exact a35 an' t1 t2 lv tp q1 q2 q3 b5 b6
          · exact m35 _ (cm c' hc' (by omega) an age day lv tp b1 b2 b3 b4 b5 b6)
      · have hi2 := nlt_of (by omega) hi hlt2
        obtain ⟨x, hx, hxp, hxc⟩ := lfs_mem (List.getElem_mem hi2)
        have hcell := E22.2.2.2.2.2.2.1 _ x hx hxp
        refine ⟨_, ⟨_, E22.2.1.1, rfl⟩, _, ⟨_, g2, rfl⟩, ll, rfl, ⟨fsL, Or.inl hfL⟩, E22.1.1.get g5 (i := i) (by rw [List.length_map]; exact hi2) ?_⟩
        rw [List.getElem_map]
        have k4 := E22.2.2.2.2.1.2.2.2.1
        have k5 := E22.2.2.2.2.1.2.2.2.2
        have q4 := E22.2.2.2.2.2.2.2.2.1
        have q5 := E22.2.2.2.2.2.2.2.2.2
        have hLl : (lpre E c ++ (lfs E c).take i).length = (lpre E c).length + i := by rw [List.length_append, List.length_take]; omega
        have hne : (gLs g).2.2.2.1 ≠ (gLs g).2.2.2.2.1 := fun z => by rw [z, k5] at k4; omega
        obtain ⟨fs4, hf4⟩ := E22.1.1.cell q4
        refine ⟨fun z hz => ?_, _, rfl, ⟨fs4, Or.inl hf4⟩, 4, by omega, E22.1.add (by omega) q4 (by rw [List.length_map, hLl]; omega) ?_ (by rw [List.length_map, hLl]; exact gco_40 (by omega)) (fun y46 v46 kp46 c46 n46 kf46 b46 => ?_)⟩
        · cases hz; exact ⟨_, Or.inl hcell⟩
        · rintro v hv
          cases hv
          exact ⟨11, _, by decide, Or.inl hcell⟩
        · have ht' : lpre E c ++ (lfs E c).take (i + 1) = (lpre E c ++ (lfs E c).take i) ++ [(lfs E c)[i]] := by rw [take_snocA hi2, List.append_assoc]
          have E46 := E22.grow (L' := (lpre E c ++ (lfs E c).take (i + 1), lpre E c ++ (lfs E c).take i)) v46 kp46.pks kf46.one (Or.inl rfl) (KD.lab k4) (by rw [up_at]; show _ = some (List.map _ (lpre E c ++ (lfs E c).take (i + 1))); rw [ht']; simp only [List.map_append]; rfl) (by rw [up_ne hne.symm]; exact q5)
          have q5' := E46.2.2.2.2.2.2.2.2.2
          obtain ⟨fs5, hf5⟩ := E46.1.1.cell q5'
          obtain ⟨cq', nm', l', la', ll', tr', xs', g1', g2', -⟩ := E46.chap hc2
          rw [hcq] at g1'
          cases g1'
          refine ⟨_, ⟨_, E46.2.1.1, rfl⟩, _, rfl, ⟨fs5, Or.inl hf5⟩, 4, by omega, E46.1.add (by omega) q5' (by rw [List.length_map, hLl]; omega) ?_ (by rw [List.length_map, hLl]; exact gco_40 (by omega)) (fun y52 v52 kp52 c52 n52 kf52 b52 => ?_)⟩
          · rintro v hv
            cases hv
            exact ⟨7, _, by decide, Or.inl g2'⟩
          · have E52 := E46.grow (L' := (lpre E c ++ (lfs E c).take (i + 1), lpre E c ++ (lfs E c).take (i + 1))) v52 kp52.pks kf52.one (Or.inr rfl) (KD.lab k5) (by rw [up_ne hne]; exact E46.2.2.2.2.2.2.2.2.1) (by
                rw [up_at]
                show _ = some (List.map _ (lpre E c ++ (lfs E c).take (i + 1)))
                have e9 : chOf E (lfs E c)[i] = c := by
                  unfold chOf
                  rw [hx]
                  exact hxc
                rw [ht']
                simp only [List.map_append]
                show _ = some (_ ++ _ ++ [some ((gXc g).getD (chOf E (lfs E c)[i]) 0)])
                rw [e9, List.getD_eq_getElem?_getD, hcq]
                rfl)
            exact ⟨(lfs E c).length - (i + 1), by omega, i + 1, _, K2, by omega, rfl, nI_add i 1, by omega, E52, F22.tr ((Kn0.f4 ⟨kp46, b46⟩).tr (Kn0.f4 ⟨kp52, b52⟩)), by omega⟩
