/-! The model's side: conditions answered, down a tree -/
set_option maxRecDepth 100000
theorem tsp_compares {σ : TS} {v one n : Int32} {post : Bool → TS → Prop} (hp : post (cmpM one v n) σ) : wp_compares post σ v one n := by
  refine ⟨fun h => ⟨fun h2 => ?_, fun h2 => ?_⟩, fun h => ⟨fun h2 => ?_, fun h2 => ?_⟩⟩
  · rw [cmpM, if_neg h, decide_eq_false (Int32.not_lt.mpr h2)] at hp; exact hp
  · rw [cmpM, if_neg h, decide_eq_true (Int32.not_le.mp h2)] at hp; exact hp
  · rw [cmpM, if_pos h, decide_eq_false (Int32.not_lt.mpr h2)] at hp; exact hp
  · rw [cmpM, if_pos h, decide_eq_true (Int32.not_le.mp h2)] at hp; exact hp
theorem nI_i {a b : Nat} (ha : a ≤ 9) (hb : b ≤ 9) (h : nI a = nI b) : a = b := (nI_eq (by omega) (by omega)).mp h
theorem tsp_isSo {σ : TS} {d k : Nat} {cs : List Cn} {ss : List St} (hd : d < 3) (hC : cnT σ d cs) (ho : cOk2 cs) (hS : SR σ ss) (hk : k < ss.length) : ∀ (i n : Nat) (post : Bool → TS → Prop), i < cs.length → i < n → post (vl (evA ss[k] (sx σ 63) (sx σ 62)) cs i) σ → wp_isSo n post σ (nI d) (nI k) (nI i) := by
  have hn := hS.2.1
  obtain ⟨m1, ma2, ma3, m4, m5, m6, m7, o1, o2, o3, o4, o5, o6, o7⟩ := hS.2.2 k hk
  have hv24 : vp_in (nI k) 24 := vp_inN (by omega) (by omega)
  obtain ⟨hl, hl4, hc⟩ := hC
  have hok := ho.ok hl4
  intro i
  induction i using Nat.strongRecOn with
  | _ i ih =>
    intro n post hi hn1 hp
    cases n with
    | zero => exact absurd hn1 (Nat.not_lt_zero _)
    | succ n =>
      show wb_isSo (wp_isSo n) post σ (nI d) (nI k) (nI i)
      intro x1 hx1
      rw [nI_mul, nI_add] at hx1
      subst hx1
      refine ⟨fun m z x => z = σ ∧ ∃ j, x = nI (400 * d + j) ∧ j ≤ i ∧ m = j ∧ vl (evA ss[k] (sx σ 63) (sx σ 62)) cs j = vl (evA ss[k] (sx σ 63) (sx σ 62)) cs i, ⟨_, rfl, i, rfl, Nat.le_refl _, rfl, rfl⟩, ?_⟩
      rintro m z x ⟨hz, j, rfl, hji, rfl, hv⟩
      subst hz
      have hj : m < cs.length := by omega
      obtain ⟨q1, q2, q3, q4⟩ := hc m hj
      have hkj : cs[m]? = some cs[m] := List.getElem?_eq_getElem hj
      obtain ⟨b1, b2, b3, b4⟩ := ho m _ hkj
      rw [nI_clamp (show 400 * d + m < 2 ^ 31 by omega)]
      refine ⟨vp_inN (by omega) (by omega), fun h0 => ?_, fun h0 => ?_⟩
      · rw [q1] at h0
        have h0' : cs[m].1 ≠ 0 := fun e => h0 (by rw [e]; decide)
        refine ⟨fun m2 z2 x => z2 = z ∧ ∃ j2, x = nI (400 * d + j2) ∧ j2 ≤ m ∧ (j2 < i ∨ ∃ k2, cs[j2]? = some k2 ∧ k2.1 ≠ 0) ∧ m2 = j2 ∧ vl (evA ss[k] (sx z 63) (sx z 62)) cs j2 = vl (evA ss[k] (sx z 63) (sx z 62)) cs i, ⟨_, rfl, m, rfl, Nat.le_refl _, Or.inr ⟨_, hkj, h0'⟩, rfl, hv⟩, ?_⟩
        rintro m2 z2 x ⟨hz2, j2, rfl, hj2, hor, rfl, hv2⟩
        subst hz2
        have hjl : m2 < cs.length := by omega
        obtain ⟨p1, p2, p3, p4⟩ := hc m2 hjl
        have hkj2 : cs[m2]? = some cs[m2] := List.getElem?_eq_getElem hjl
        obtain ⟨t1, t2, t3, t4⟩ := ho m2 _ hkj2
        rw [nI_clamp (show 400 * d + m2 < 2 ^ 31 by omega)]
        have hvp : vp_in (nI (400 * d + m2)) 1200 := vp_inN (by omega) (by omega)
        refine ⟨hvp, fun h1 => ?_, fun h1 => ?_⟩
        · rw [p1] at h1
          have h1' : cs[m2].1 ≠ 1 := fun e => h1 (by rw [e])
          refine ⟨hvp, fun x18 hx18 => ?_⟩
          rw [p2] at hx18
          subst hx18
          refine ⟨hvp, fun x19 hx19 => ?_⟩
          rw [p3] at hx19
          subst hx19
          rw [p1, nI_clamp (show k < 2 ^ 31 by omega), nI_mul 400 d, nI_mul 8 k, nI_mul 6 k, nI_sub (show 400 * d ≤ 400 * d + m2 by omega), Nat.add_sub_cancel_left, m1, ma2, ma3]
          refine ⟨hvp, fun e0 => ?_, fun e0 => ⟨fun e1 => ?_, fun e1 => ⟨fun e2 => ?_, fun e2 => ⟨fun e3 => ?_, fun e3 => ⟨fun e4 => ?_, fun e4 => ⟨fun e5 => ?_, fun e5 => ⟨fun e6 => ?_, fun e6 => ⟨fun e7 => ?_, fun e7 => ⟨fun e8 => ?_, fun e8 => ?_⟩⟩⟩⟩⟩⟩⟩⟩⟩
          · have e := nI_i t1 (by omega) e0
            have hlt : m2 < i := by
              rcases hor with z1 | ⟨k2, z1, z2⟩
              · exact z1
              · rw [hkj2] at z1; cases z1; exact absurd e z2
            rw [← hv2] at hp
            exact ih m2 hlt n _ hjl (by omega) hp
          · exact absurd (nI_i t1 (by omega) e1) h1'
          · have e := nI_i t1 (by omega) e2
            obtain ⟨a, ea, la⟩ := t3 e
            have hx := vl_not (F := evA ss[k] (sx z2 63) (sx z2 62)) hok hkj2 e
            rw [ea, ix, nI_clamp (by omega)] at hx
            rw [← hv2, hx] at hp
            rw [ea]
            refine ih a (by omega) n _ (by omega) (by omega) ⟨fun hb => ?_, fun hb => ?_⟩
            · rw [hb] at hp; exact hp
            · rw [hb] at hp; exact hp
          · have e := nI_i t1 (by omega) e3
            rw [← hv2, vl_atom hkj2 (by omega), evA, if_pos e] at hp
            refine ⟨hv24, tsp_within ⟨fun hb => ?_, fun hb => ?_⟩⟩
            · have hb' : has (cs[m2].2.1, cs[m2].2.2.1) (sMain ss[k]) = false := hb
              rw [hb', Bool.false_or] at hp
              refine ⟨fun n3 z3 x => z3 = z2 ∧ ∃ b, x = nI b ∧ b ≤ (sSecs ss[k]).length ∧ n3 = (sSecs ss[k]).length - b ∧ ∀ a (ha : a < (sSecs ss[k]).length), a < b → has (cs[m2].2.1, cs[m2].2.2.1) (sSecs ss[k])[a] = false, ⟨_, rfl, 0, rfl, Nat.zero_le _, rfl, fun a _ h => absurd h (Nat.not_lt_zero _)⟩, ?_⟩
              rintro n3 z3 x ⟨hz3, b, rfl, hbl, rfl, hno⟩
              subst hz3
              rw [nI_add (8 * k) b, nI_clamp (show 8 * k + b < 2 ^ 31 by omega), m4]
              refine ⟨hv24, fun hge => ?_, fun hlt => ?_⟩
              · have := nle_of (by omega) hbl hge
                rw [any_no (fun a ha => hno a ha (by omega))] at hp
                exact hp
              · have hb2 := nlt_of (by omega) hbl hlt
                rw [m5 b hb2]
                refine ⟨vp_inN (by omega) (by omega), tsp_within ⟨fun hb3 => ⟨(sSecs ss[k]).length - (b + 1), by omega, rfl, b + 1, by rw [nI_add], by omega, rfl, fun a ha hab => ?_⟩, fun hb3 => ?_⟩⟩
                · by_cases ee : a = b
                  · subst ee; exact hb3
                  · exact hno a ha (by omega)
                · rw [any_yes hb2 hb3] at hp; exact hp
            · have hb' : has (cs[m2].2.1, cs[m2].2.2.1) (sMain ss[k]) = true := hb
              rw [hb', Bool.true_or] at hp
              exact hp
          · have e := nI_i t1 (by omega) e4
            rw [← hv2, vl_atom hkj2 (by omega), evA, if_neg (by omega), if_pos e] at hp
            exact ⟨hv24, tsp_within hp⟩
          · have e := nI_i t1 (by omega) e5
            rw [← hv2, vl_atom hkj2 (by omega), evA, if_neg (by omega), if_neg (by omega), if_pos e] at hp
            refine ⟨fun n3 z3 x => z3 = z2 ∧ ∃ b, x = nI b ∧ b ≤ (sProcs ss[k]).length ∧ n3 = (sProcs ss[k]).length - b ∧ ∀ a (ha : a < (sProcs ss[k]).length), a < b → has (cs[m2].2.1, cs[m2].2.2.1) (sProcs ss[k])[a] = false, ⟨_, rfl, 0, rfl, Nat.zero_le _, rfl, fun a _ h => absurd h (Nat.not_lt_zero _)⟩, ?_⟩
            rintro n3 z3 x ⟨hz3, b, rfl, hbl, rfl, hno⟩
            subst hz3
            rw [nI_add (6 * k) b, nI_clamp (show 6 * k + b < 2 ^ 31 by omega), m6]
            refine ⟨hv24, fun hge => ?_, fun hlt => ?_⟩
            · have := nle_of (by omega) hbl hge
              rw [any_no (fun a ha => hno a ha (by omega))] at hp
              exact hp
            · have hb2 := nlt_of (by omega) hbl hlt
              rw [m7 b hb2]
              refine ⟨vp_inN (by omega) (by omega), tsp_within ⟨fun hb3 => ⟨(sProcs ss[k]).length - (b + 1), by omega, rfl, b + 1, by rw [nI_add], by omega, rfl, fun a ha hab => ?_⟩, fun hb3 => ?_⟩⟩
              · by_cases ee : a = b
                · subst ee; exact hb3
                · exact hno a ha (by omega)
              · rw [any_yes hb2 hb3] at hp; exact hp
          · have e := nI_i t1 (by omega) e6
            rw [← hv2, vl_atom hkj2 (by omega), evA, if_neg (by omega), if_neg (by omega), if_neg (by omega), if_pos e] at hp
            exact ⟨hv24, tsp_compares hp⟩
          · have e := nI_i t1 (by omega) e7
            rw [← hv2, vl_atom hkj2 (by omega), evA, if_neg (by omega), if_neg (by omega), if_neg (by omega), if_neg (by omega), if_pos e] at hp
            exact ⟨hv24, tsp_compares hp⟩
          · have e := nI_i t1 (by omega) e8
            rw [← hv2, vl_atom hkj2 (by omega), evA, if_neg (by omega), if_neg (by omega), if_neg (by omega), if_neg (by omega), if_neg (by omega), if_pos e] at hp
            exact tsp_compares hp
          · have n0 : cs[m2].1 ≠ 0 := fun z => e0 (by rw [z])
            have n2 : cs[m2].1 ≠ 2 := fun z => e2 (by rw [z])
            have n3 : cs[m2].1 ≠ 3 := fun z => e3 (by rw [z])
            have n4 : cs[m2].1 ≠ 4 := fun z => e4 (by rw [z])
            have n5 : cs[m2].1 ≠ 5 := fun z => e5 (by rw [z])
            have n6 : cs[m2].1 ≠ 6 := fun z => e6 (by rw [z])
            have n7 : cs[m2].1 ≠ 7 := fun z => e7 (by rw [z])
            have n8 : cs[m2].1 ≠ 8 := fun z => e8 (by rw [z])
            rw [← hv2, vl_atom hkj2 (by omega), evA, if_neg n3, if_neg n4, if_neg n5, if_neg n6, if_neg n7, if_neg n8] at hp
            exact tsp_compares hp
        · rw [p1] at h1
          have e := nI_i t1 (by omega) h1
          obtain ⟨a, b, ea, la, eb, lb⟩ := t2 (by omega)
          have hx := vl_and (F := evA ss[k] (sx z2 63) (sx z2 62)) hok hkj2 e
          rw [ea, eb, ix, ix, nI_clamp (by omega), nI_clamp (by omega)] at hx
          rw [p3, eb]
          refine ⟨hvp, ih b (by omega) n _ (by omega) (by omega) ⟨fun hb => ⟨hvp, fun x80 hx80 => ?_⟩, fun hb => ?_⟩⟩
          · rw [p2, ea, nI_mul, nI_add] at hx80
            subst hx80
            refine ⟨a, la, rfl, a, rfl, by omega, Or.inl (by omega), rfl, ?_⟩
            rw [← hv2, hx, hb, Bool.and_true]
          · rw [← hv2, hx, hb, Bool.and_false] at hp
            exact hp
      · rw [q1] at h0
        have e : cs[m].1 = 0 := nI_i b1 (by omega) (h0.trans nI_0.symm)
        obtain ⟨a, b, ea, la, eb, lb⟩ := b2 (by omega)
        have hx := vl_or (F := evA ss[k] (sx z 63) (sx z 62)) hok hkj e
        rw [ea, eb, ix, ix, nI_clamp (by omega), nI_clamp (by omega)] at hx
        rw [q3, eb]
        refine ⟨vp_inN (by omega) (by omega), ih b (by omega) n _ (by omega) (by omega) ⟨fun hb => ⟨vp_inN (by omega) (by omega), fun x87 hx87 => ?_⟩, fun hb => ?_⟩⟩
        · rw [q2, ea, nI_mul, nI_add] at hx87
          subst hx87
          refine ⟨a, la, rfl, a, rfl, by omega, rfl, ?_⟩
          rw [← hv, hx, hb, Bool.or_false]
        · rw [← hv, hx, hb, Bool.or_true] at hp
          exact hp
/-- how wide a side is in a row -/
def Wd (a : Nat) : Nat := if a = 3 then 7 else if a ≤ 5 ∨ a = 8 then 6 else if a ≤ 7 then 18 else if a ≤ 15 then 10 else if a ≤ 17 then 30 else if a ≤ 19 then 16 else if a ≤ 24 then 40 else 400
theorem RepT.same {σ σ' : TS} {d : Nat} {E : Ed} (h : RepT σ d E) (h1 : ∀ a j, 3 ≤ a → a ≤ 28 → j / Wd a = d → sf σ' a j = sf σ a j) (h2 : ∀ a j, a = 4 ∨ a = 18 → j / Wd a = d → sg σ' a j = sg σ a j) : RepT σ' d E := by
  obtain ⟨hd, ⟨a1, a2, a3⟩, ⟨b1, b2, b3⟩, ⟨c1, c2, c3⟩, ⟨d1, d2, d3⟩, ⟨e1, e2, e3⟩, f1, f2, f3⟩ := h
  refine ⟨hd, ⟨?_, a2, fun k hk => ?_⟩, ⟨?_, b2, fun k hk => ?_⟩, ⟨?_, c2, fun k hk => ?_⟩, ⟨?_, d2, fun k hk => ?_⟩, ⟨?_, e2, fun k hk => ?_⟩, ?_, f2, fun k hk => ?_⟩
  · rw [h1 3 _ (by omega) (by omega) (by show _ / 7 = d; omega)]; exact a1
  · obtain ⟨q1, q2, q3, q4, q5⟩ := a3 k hk
    refine ⟨?_, ?_, q3, fun j hj => ⟨?_, ?_⟩, ?_⟩
    · rw [h2 4 _ (by omega) (by show _ / 6 = d; omega)]; exact q1
    · rw [h1 5 _ (by omega) (by omega) (by show _ / 6 = d; omega)]; exact q2
    · rw [h1 6 _ (by omega) (by omega) (by show _ / 18 = d; omega)]; exact (q4 j hj).1
    · rw [h1 7 _ (by omega) (by omega) (by show _ / 18 = d; omega)]; exact (q4 j hj).2
    · rw [h1 8 _ (by omega) (by omega) (by show _ / 6 = d; omega)]; exact q5
  · rw [h1 3 _ (by omega) (by omega) (by show _ / 7 = d; omega)]; exact b1
  · obtain ⟨q1, q2, q3⟩ := b3 k hk
    refine ⟨?_, ?_, ?_⟩
    · rw [h1 9 _ (by omega) (by omega) (by show _ / 10 = d; omega)]; exact q1
    · rw [h1 10 _ (by omega) (by omega) (by show _ / 10 = d; omega)]; exact q2
    · rw [h1 11 _ (by omega) (by omega) (by show _ / 10 = d; omega)]; exact q3
  · rw [h1 3 _ (by omega) (by omega) (by show _ / 7 = d; omega)]; exact c1
  · obtain ⟨q1, q2, q3, q4, q5, q6⟩ := c3 k hk
    refine ⟨?_, ?_, ?_, ?_, q5, fun j hj => ⟨?_, ?_⟩⟩
    · rw [h1 12 _ (by omega) (by omega) (by show _ / 10 = d; omega)]; exact q1
    · rw [h1 13 _ (by omega) (by omega) (by show _ / 10 = d; omega)]; exact q2
    · rw [h1 14 _ (by omega) (by omega) (by show _ / 10 = d; omega)]; exact q3
    · rw [h1 15 _ (by omega) (by omega) (by show _ / 10 = d; omega)]; exact q4
    · rw [h1 16 _ (by omega) (by omega) (by show _ / 30 = d; omega)]; exact (q6 j hj).1
    · rw [h1 17 _ (by omega) (by omega) (by show _ / 30 = d; omega)]; exact (q6 j hj).2
  · rw [h1 3 _ (by omega) (by omega) (by show _ / 7 = d; omega)]; exact d1
  · obtain ⟨q1, q2⟩ := d3 k hk
    refine ⟨?_, ?_⟩
    · rw [h2 18 _ (by omega) (by show _ / 16 = d; omega)]; exact q1
    · rw [h1 19 _ (by omega) (by omega) (by show _ / 16 = d; omega)]; exact q2
  · rw [h1 3 _ (by omega) (by omega) (by show _ / 7 = d; omega)]; exact e1
  · obtain ⟨q1, q2, q3⟩ := e3 k hk
    refine ⟨?_, ?_, fun z => ⟨?_, ?_, ?_⟩⟩
    · rw [h1 20 _ (by omega) (by omega) (by show _ / 40 = d; omega)]; exact q1
    · rw [h1 24 _ (by omega) (by omega) (by show _ / 40 = d; omega)]; exact q2
    · rw [h1 21 _ (by omega) (by omega) (by show _ / 40 = d; omega)]; exact (q3 z).1
    · rw [h1 22 _ (by omega) (by omega) (by show _ / 40 = d; omega)]; exact (q3 z).2.1
    · rw [h1 23 _ (by omega) (by omega) (by show _ / 40 = d; omega)]; exact (q3 z).2.2
  · rw [h1 3 _ (by omega) (by omega) (by show _ / 7 = d; omega)]; exact f1
  · obtain ⟨q1, q2, q3, q4⟩ := f3 k hk
    refine ⟨?_, ?_, ?_, fun z => ?_⟩
    · rw [h1 25 _ (by omega) (by omega) (by show _ / 400 = d; omega)]; exact q1
    · rw [h1 26 _ (by omega) (by omega) (by show _ / 400 = d; omega)]; exact q2
    · rw [h1 27 _ (by omega) (by omega) (by show _ / 400 = d; omega)]; exact q3
    · rw [h1 28 _ (by omega) (by omega) (by show _ / 400 = d; omega)]; exact q4 z
/-- what a question changes: thrown, top, level, way, wayLong -/
def QF (σ σ' : TS) : Prop := (∀ k, k ≠ 2 → k ≠ 62 → k ≠ 63 → k ≠ 65 → sx σ' k = sx σ k) ∧ (∀ a j, sg σ' a j = sg σ a j) ∧ ∀ a j, a ≠ 64 → sf σ' a j = sf σ a j
theorem QF.rf (σ : TS) : QF σ σ := ⟨fun _ _ _ _ _ => rfl, fun _ _ => rfl, fun _ _ _ => rfl⟩
theorem QF.tr {a b c : TS} (h : QF a b) (k : QF b c) : QF a c := ⟨fun i h1 h2 h3 h4 => (k.1 i h1 h2 h3 h4).trans (h.1 i h1 h2 h3 h4), fun i j => (k.2.1 i j).trans (h.2.1 i j), fun i j z => (k.2.2 i j z).trans (h.2.2 i j z)⟩
theorem QF.ux {σ σ' : TS} {k : Nat} {v : Int32} (h : QF σ σ') (hk : k = 2 ∨ k = 62 ∨ k = 63 ∨ k = 65) : QF σ (ux σ' k v) := ⟨fun i h1 h2 h3 h4 => by rw [sx_ux, if_neg (by omega)]; exact h.1 i h1 h2 h3 h4, h.2.1, h.2.2⟩
theorem QF.uf {σ σ' : TS} {i : Nat} {v : Int32} (h : QF σ σ') : QF σ (uf σ' 64 i v) := ⟨h.1, h.2.1, fun a j ha => by rw [sf_uf, if_neg (by omega)]; exact h.2.2 a j ha⟩
theorem RepT.q {σ σ' : TS} {d : Nat} {E : Ed} (h : RepT σ d E) (q : QF σ σ') : RepT σ' d E := h.same (fun a j _ _ _ => q.2.2 a j (by omega)) (fun a j _ _ => q.2.1 a j)
theorem SR.same {σ σ' : TS} {ss : List St} (h : SR σ ss) (h0 : sx σ' 34 = sx σ 34) (h1 : ∀ a j, 35 ≤ a → a ≤ 41 → sf σ' a j = sf σ a j) : SR σ' ss := by
  refine ⟨h0.trans h.1, h.2.1, fun k hk => ?_⟩
  obtain ⟨m1, m2, m3, m4, m5, m6, m7, o⟩ := h.2.2 k hk
  exact ⟨(h1 _ _ (by omega) (by omega)).trans m1, (h1 _ _ (by omega) (by omega)).trans m2, (h1 _ _ (by omega) (by omega)).trans m3, (h1 _ _ (by omega) (by omega)).trans m4, fun j hj => (h1 _ _ (by omega) (by omega)).trans (m5 j hj), (h1 _ _ (by omega) (by omega)).trans m6, fun j hj => (h1 _ _ (by omega) (by omega)).trans (m7 j hj), o⟩
theorem SR.q {σ σ' : TS} {ss : List St} (h : SR σ ss) (q : QF σ σ') : SR σ' ss := h.same (q.1 34 (by omega) (by omega) (by omega) (by omega)) (fun a j _ _ => q.2.2 a j (by omega))
theorem RepT.s {σ σ' : TS} {d : Nat} {E : Ed} (h : RepT σ d E) (q : SF σ σ') : RepT σ' d E := h.same (fun a j _ _ _ => q.2.2.2 a j (by omega)) (fun a j _ _ => q.2.2.1 a j)
/-- what an edition sees of a stay -/
def lkL (E : Ed) (s : St) : Int32 := levelOf (ePt E) s (sSecs s)
def lkT (E : Ed) (s : St) : Int32 := topOf (eRk E) (sProcs s)
def lkC (E : Ed) (s : St) : Int32 := chapterFor (eCh E) (sMain s)
def lkN (E : Ed) (s : St) : Option (Nat × List Bool) := if h : (eCh E).findIdx (fun c => anyS c.2.1 (sMain s)) < (eCh E).length then some (gn (evA s (lkL E s) (lkT E s)) (eNd E) (eCn E) 40 (ix (eCh E)[(eCh E).findIdx (fun c => anyS c.2.1 (sMain s))].2.2)) else none
def lkK (E : Ed) (s : St) : Int32 := match lkN E s with
  | none => -1
  | some p => (((eNd E)[p.1]?).map (fun x => x.1)).getD (-1)
def lkW (E : Ed) (s : St) : Int32 := if lkK E s < 0 then 0 else (((eCl E)[ix (lkK E s)]?).map (fun x => x.2)).getD 0
theorem gn_leaf {F : Cn → Bool} {ns : List Nd} {cs : List Cn} {f n : Nat} {x : Nd} (hx : ns[n]? = some x) (h : ¬ x.1 < 0) : gn F ns cs f n = (n, []) := by
  cases f with
  | zero => rfl
  | succ f => simp only [gn, hx, if_neg h]
theorem gn_step {F : Cn → Bool} {ns : List Nd} {cs : List Cn} {f n : Nat} {x : Nd} (hx : ns[n]? = some x) (h : x.1 < 0) : gn F ns cs (f + 1) n = ((gn F ns cs f (if vl F cs x.2.1 then x.2.2.1 else x.2.2.2.1)).1, vl F cs x.2.1 :: (gn F ns cs f (if vl F cs x.2.1 then x.2.2.1 else x.2.2.2.1)).2) := by
  simp only [gn, hx, if_pos h]
/-- the way ends at a leaf -/
theorem gn_ok {F : Cn → Bool} {E : Ed} (ho : nOk E) : ∀ (f n : Nat), n < (eNd E).length → (eNd E).length ≤ n + f + 1 → ∃ x, (eNd E)[(gn F (eNd E) (eCn E) f n).1]? = some x ∧ ¬ x.1 < 0 ∧ (gn F (eNd E) (eCn E) f n).2.length ≤ f := by
  intro f
  induction f with
  | zero =>
    intro n hn hf
    have hx : (eNd E)[n]? = some (eNd E)[n] := List.getElem?_eq_getElem hn
    refine ⟨_, hx, fun h => ?_, Nat.le_refl _⟩
    have := (ho n _ hx).1 h
    omega
  | succ f ih =>
    intro n hn hf
    have hx : (eNd E)[n]? = some (eNd E)[n] := List.getElem?_eq_getElem hn
    by_cases h : (eNd E)[n].1 < 0
    · obtain ⟨h1, h2, h3, h4, h5⟩ := (ho n _ hx).1 h
      rw [gn_step hx h]
      generalize hb : vl F (eCn E) (eNd E)[n].2.1 = b
      have h6 : (if b = true then (eNd E)[n].2.2.1 else (eNd E)[n].2.2.2.1) < (eNd E).length ∧ n < (if b = true then (eNd E)[n].2.2.1 else (eNd E)[n].2.2.2.1) := by
        cases b
        · exact ⟨h4, h3⟩
        · exact ⟨h2, h1⟩
      obtain ⟨x, e1, e2, e3⟩ := ih _ h6.1 (by omega)
      exact ⟨x, e1, e2, by simp only [List.length_cons]; omega⟩
    · rw [gn_leaf hx h]
      exact ⟨_, hx, h, Nat.zero_le _⟩
