/-! The model: marks, leaves, swap -/
set_option maxRecDepth 100000
/-- a set of conditions that holds the parts of each -/
def clo (cs : List Cn) (S : Nat → Prop) : Prop := ∀ (j : Nat) (k : Cn), S j → cs[j]? = some k → (k.1 ≤ 1 → S (ix k.2.1) ∧ S (ix k.2.2.1)) ∧ (k.1 = 2 → S (ix k.2.1))
def Mk9 (z : TS) (d : Nat) (ct : Nat → Nat) (j : Nat) : Prop := sf z 72 (400 * d + j) = nI (ct j)
/-- only the trees of conditions are others -/
def K72 (σ σ' : TS) : Prop := (∀ k, sx σ' k = sx σ k) ∧ (∀ a j, sg σ' a j = sg σ a j) ∧ ∀ a j, a ≠ 72 → sf σ' a j = sf σ a j
theorem K72.rf (σ : TS) : K72 σ σ := ⟨fun _ => rfl, fun _ _ => rfl, fun _ _ _ => rfl⟩
theorem K72.tr {a b c : TS} (h : K72 a b) (k : K72 b c) : K72 a c := ⟨fun i => (k.1 i).trans (h.1 i), fun i j => (k.2.1 i j).trans (h.2.1 i j), fun i j z => (k.2.2 i j z).trans (h.2.2 i j z)⟩
theorem K72.l {σ σ' : TS} (h : K72 σ σ') : LF σ σ' := ⟨fun k _ _ => h.1 k, h.2.1, fun a j ha => h.2.2 a j (by omega)⟩
theorem K72.put (σ : TS) (i : Nat) (v : Int32) : K72 σ (uf σ 72 i v) := ⟨fun _ => rfl, fun _ _ => rfl, fun a j ha => by rw [sf_uf, if_neg (by omega)]⟩
theorem cnT.l {σ σ' : TS} {d : Nat} {cs : List Cn} (hC : cnT σ d cs) (q : LF σ σ') : cnT σ' d cs := by
  obtain ⟨h1, h2, h3⟩ := hC
  refine ⟨(q.2.2 _ _ (by omega)).trans h1, h2, fun k hk => ?_⟩
  obtain ⟨q1, q2, q3, q4⟩ := h3 k hk
  exact ⟨(q.2.2 _ _ (by omega)).trans q1, (q.2.2 _ _ (by omega)).trans q2, (q.2.2 _ _ (by omega)).trans q3, fun z => (q.2.2 _ _ (by omega)).trans (q4 z)⟩
theorem tsp_marks {d c : Nat} {cs : List Cn} {ct : Nat → Nat} (hd : d < 3) (hl : cs.length ≤ 400) (ho : cOk2 cs) (hcc : ∀ (i : Nat) (k : Cn), cs[i]? = some k → (k.1 ≤ 1 → ct (ix k.2.1) = ct i ∧ ct (ix k.2.2.1) = ct i) ∧ (k.1 = 2 → ct (ix k.2.1) = ct i)) : ∀ (i n : Nat) (z : TS) (post : TS → Prop), i < cs.length → i < n → ct i = c → sx z 29 = nI d → cnT z d cs → (∀ z', K72 z z' → (∀ j, Mk9 z d ct j → Mk9 z' d ct j) → (∃ S, S i ∧ clo cs S ∧ ∀ j, S j → Mk9 z' d ct j) → post z') → wp_marks n post z (nI c) (nI i) := by
  intro i
  induction i using Nat.strongRecOn with
  | _ i ih =>
    intro n z post hi hn1 hic en hC hp
    cases n with
    | zero => exact absurd hn1 (Nat.not_lt_zero _)
    | succ n =>
      show wb_marks (wp_marks n) post z (nI c) (nI i)
      intro x1 hx1
      rw [en, nI_mul, nI_add] at hx1
      subst hx1
      rw [nI_clamp (show 400 * d + i < 2 ^ 31 by omega)]
      refine ⟨vp_inN (by omega) (by omega), fun z2 hz2 => ?_⟩
      have mono : ∀ (z z' : TS) (a : Nat), ct a = c → z' = uf z 72 (400 * d + a) (nI c) → (∀ j, Mk9 z d ct j → Mk9 z' d ct j) ∧ Mk9 z' d ct a := by
        intro z z' a ha hz
        refine ⟨fun j hj => ?_, ?_⟩
        · unfold Mk9
          rw [hz, sf_uf]
          by_cases e : j = a
          · subst e; rw [if_pos ⟨rfl, rfl⟩, ha]
          · rw [if_neg (by omega)]; exact hj
        · unfold Mk9
          rw [hz, sf_uf, if_pos ⟨rfl, rfl⟩, ha]
      obtain ⟨mo2, mi2⟩ := mono z z2 i hic hz2
      refine ⟨fun m z5 x => ∃ j T, x = nI (400 * d + j) ∧ m = j ∧ j ≤ i ∧ ct j = c ∧ K72 z z5 ∧ (∀ j, Mk9 z d ct j → Mk9 z5 d ct j) ∧ T i ∧ T j ∧ (∀ (m : Nat) (k : Cn), T m → m ≠ j → cs[m]? = some k → (k.1 ≤ 1 → T (ix k.2.1) ∧ T (ix k.2.2.1)) ∧ (k.1 = 2 → T (ix k.2.1))) ∧ ∀ m, T m → Mk9 z5 d ct m, ⟨_, i, fun m => m = i, rfl, rfl, Nat.le_refl _, hic, by rw [hz2]; exact K72.put _ _ _, mo2, rfl, rfl, fun m k h1 h2 => absurd h1 h2, fun m hm => by rw [hm]; exact mi2⟩, ?_⟩
      rintro m z5 x ⟨j, T, rfl, rfl, hji, hjc, hK, hmo, hTi, hTj, hTc, hTm⟩
      have hj : m < cs.length := by omega
      obtain ⟨q1, q2, q3, q4⟩ := (hC.l hK.l).2.2 m hj
      have hkj : cs[m]? = some cs[m] := List.getElem?_eq_getElem hj
      obtain ⟨t1, t2, t3, t4⟩ := ho m _ hkj
      obtain ⟨c1, c2⟩ := hcc m _ hkj
      have hvp : vp_in (nI (400 * d + m)) 1200 := vp_inN (by omega) (by omega)
      have en5 : sx z5 29 = nI d := (hK.1 _).trans en
      rw [nI_clamp (show 400 * d + m < 2 ^ 31 by omega), q1, q2, q3]
      refine ⟨hvp, fun hgt => ⟨hvp, fun hne => ?_, fun he => ⟨hvp, ?_⟩⟩, fun hgt => ⟨hvp, ?_⟩⟩
      · have h1 : 1 < cs[m].1 := (nI_ltI (by omega) (by omega)).mp hgt
        have h2 : cs[m].1 ≠ 2 := fun z => hne (by rw [z])
        refine hp z5 hK hmo ⟨T, hTi, fun m2 k hm2 hk => ?_, hTm⟩
        by_cases e : m2 = m
        · subst e
          rw [hkj] at hk
          cases hk
          exact ⟨fun z => by omega, fun z => absurd z h2⟩
        · exact hTc m2 k hm2 e hk
      · have h2 : cs[m].1 = 2 := nI_i t1 (by omega) he
        obtain ⟨a, ea, la⟩ := t3 h2
        have ca := c2 h2
        have hxa : ix cs[m].2.1 = a := by rw [ea, ix, nI_clamp (by omega)]
        rw [hxa] at ca
        rw [ea]
        refine ih a (by omega) n z5 _ (by omega) (by omega) (ca.trans hjc) en5 (hC.l hK.l) (fun z' hK' hm' hS => ?_)
        obtain ⟨S, s1, s2, s3⟩ := hS
        refine hp z' (hK.tr hK') (fun j hj => hm' j (hmo j hj)) ⟨fun m => T m ∨ S m, Or.inl hTi, fun m2 k hm2 hk => ?_, fun m2 hm2 => ?_⟩
        · rcases hm2 with hm2 | hm2
          · by_cases e : m2 = m
            · subst e
              rw [hkj] at hk
              cases hk
              exact ⟨fun z => by omega, fun _ => by rw [hxa]; exact Or.inr s1⟩
            · obtain ⟨u1, u2⟩ := hTc m2 k hm2 e hk
              exact ⟨fun z => ⟨Or.inl (u1 z).1, Or.inl (u1 z).2⟩, fun z => Or.inl (u2 z)⟩
          · obtain ⟨u1, u2⟩ := s2 m2 k hm2 hk
            exact ⟨fun z => ⟨Or.inr (u1 z).1, Or.inr (u1 z).2⟩, fun z => Or.inr (u2 z)⟩
        · rcases hm2 with hm2 | hm2
          · exact hm' m2 (hTm m2 hm2)
          · exact s3 m2 hm2
      · have h1 : cs[m].1 ≤ 1 := by
          rcases Nat.lt_or_ge 1 cs[m].1 with z1 | z1
          · exact absurd (nI_lt z1 (by omega)) hgt
          · exact z1
        obtain ⟨a, b, ea, la, eb, lb⟩ := t2 h1
        obtain ⟨ca, cb⟩ := c1 h1
        have hxa : ix cs[m].2.1 = a := by rw [ea, ix, nI_clamp (by omega)]
        have hxb : ix cs[m].2.2.1 = b := by rw [eb, ix, nI_clamp (by omega)]
        rw [hxa] at ca
        rw [hxb] at cb
        rw [eb]
        refine ih b (by omega) n z5 _ (by omega) (by omega) (cb.trans hjc) en5 (hC.l hK.l) (fun z' hK' hm' hS => ⟨hvp, fun x14 hx14 => ?_⟩)
        obtain ⟨S, s1, s2, s3⟩ := hS
        obtain ⟨-, p2, -⟩ := (hC.l (hK.tr hK').l).2.2 m hj
        rw [(hK'.1 _).trans en5, p2, ea, nI_mul, nI_add] at hx14
        subst hx14
        rw [nI_clamp (show 400 * d + a < 2 ^ 31 by omega)]
        refine ⟨vp_inN (by omega) (by omega), fun z15 hz15 => ?_⟩
        obtain ⟨mo5, mi5⟩ := mono z' z15 a (ca.trans hjc) hz15
        refine ⟨a, la, a, fun m => (T m ∨ S m) ∨ m = a, rfl, rfl, by omega, ca.trans hjc, (hK.tr hK').tr (by rw [hz15]; exact K72.put _ _ _), fun j hj => mo5 j (hm' j (hmo j hj)), Or.inl (Or.inl hTi), Or.inr rfl, fun m2 k hm2 hne hk => ?_, fun m2 hm2 => ?_⟩
        · rcases hm2 with (hm2 | hm2) | hm2
          · by_cases e : m2 = m
            · subst e
              rw [hkj] at hk
              cases hk
              exact ⟨fun _ => by rw [hxa, hxb]; exact ⟨Or.inr rfl, Or.inl (Or.inr s1)⟩, fun z => by omega⟩
            · obtain ⟨u1, u2⟩ := hTc m2 k hm2 e hk
              exact ⟨fun z => ⟨Or.inl (Or.inl (u1 z).1), Or.inl (Or.inl (u1 z).2)⟩, fun z => Or.inl (Or.inl (u2 z))⟩
          · obtain ⟨u1, u2⟩ := s2 m2 k hm2 hk
            exact ⟨fun z => ⟨Or.inl (Or.inr (u1 z).1), Or.inl (Or.inr (u1 z).2)⟩, fun z => Or.inl (Or.inr (u2 z))⟩
          · exact absurd hm2 hne
        · rcases hm2 with (hm2 | hm2) | hm2
          · exact mo5 m2 (hm' m2 (hTm m2 hm2))
          · exact mo5 m2 (s3 m2 hm2)
          · rw [hm2]; exact mi5
/-- a leaf of the tree c -/
def pLf (E : Ed) (c n : Nat) : Bool := match (eNd E)[n]? with
  | none => false
  | some x => !(decide (x.1 < 0)) && decide (x.2.2.2.2 = c)
def lvP (E : Ed) (C : Nat) : List Nat := (List.range C).flatMap (fun c => (List.range (eNd E).length).filter (pLf E c))
theorem lvs_eq (E : Ed) : lvs E = lvP E (eCh E).length := rfl
theorem countP_add {α : Type} {xs : List α} {p q r : α → Bool} (h : ∀ x, r x = (p x || q x) ∧ ¬ (p x = true ∧ q x = true)) : xs.countP r = xs.countP p + xs.countP q := by
  induction xs with
  | nil => rfl
  | cons a t ih =>
    rw [List.countP_cons, List.countP_cons, List.countP_cons, ih]
    obtain ⟨h1, h2⟩ := h a
    rw [h1]
    cases hp : p a with
    | true =>
      have : q a = false := by
        cases hq : q a with
        | false => rfl
        | true => exact absurd ⟨hp, hq⟩ h2
      rw [this]
      simp only [Bool.or_false, if_true, Bool.false_eq_true, if_false]
      omega
    | false =>
      cases hq : q a with
      | true =>
        simp only [Bool.or_true, if_true, Bool.false_eq_true, if_false]
        omega
      | false =>
        simp only [Bool.or_false, Bool.false_eq_true, if_false]
        omega
def pLl (E : Ed) (C n : Nat) : Bool := match (eNd E)[n]? with
  | none => false
  | some x => !(decide (x.1 < 0)) && decide (x.2.2.2.2 < C)
theorem lvP_len (E : Ed) : ∀ C, (lvP E C).length = (List.range (eNd E).length).countP (pLl E C) := by
  intro C
  induction C with
  | zero =>
    have : (List.range (eNd E).length).countP (pLl E 0) = 0 := List.countP_eq_zero.mpr (fun n _ => by
      unfold pLl
      cases (eNd E)[n]? with
      | none => simp
      | some x => simp)
    rw [this]; rfl
  | succ C ih =>
    have h1 : lvP E (C + 1) = lvP E C ++ (List.range (eNd E).length).filter (pLf E C) := by
      unfold lvP
      rw [List.range_succ, List.flatMap_append]
      simp
    rw [h1, List.length_append, ih, ← List.countP_eq_length_filter]
    refine (countP_add (fun n => ?_)).symm
    unfold pLl pLf
    cases (eNd E)[n]? with
    | none => simp
    | some x =>
      by_cases hx : x.1 < 0
      · simp [hx]
      · simp only [hx, decide_false, Bool.not_false, Bool.true_and]
        refine ⟨?_, fun z => ?_⟩
        · rw [Bool.eq_iff_iff, Bool.or_eq_true, decide_eq_true_iff, decide_eq_true_iff, decide_eq_true_iff]
          omega
        · have h2 := of_decide_eq_true z.1
          have h3 := of_decide_eq_true z.2
          omega
theorem lvP_succ (E : Ed) (C : Nat) : lvP E (C + 1) = lvP E C ++ (List.range (eNd E).length).filter (pLf E C) := by
  unfold lvP
  rw [List.range_succ, List.flatMap_append]
  simp
theorem lvP_le (E : Ed) (C : Nat) : (lvP E C).length ≤ (eNd E).length := by
  rw [lvP_len]
  have := List.countP_le_length (p := pLl E C) (l := List.range (eNd E).length)
  rw [List.length_range] at this
  exact this
theorem flt_le (E : Ed) (C : Nat) : ∀ n, n ≤ (eNd E).length → ((List.range n).filter (pLf E C)).length ≤ ((List.range (eNd E).length).filter (pLf E C)).length := by
  intro n hn
  exact (List.Sublist.filter _ (List.range_sublist.mpr hn)).length_le
/-- the leaves laid so far -/
def LN (z : TS) (xs : List Nat) : Prop := sx z 66 = nI xs.length ∧ ∀ j (h : j < xs.length), sf z 67 j = nI xs[j]
theorem LN.same {z z' : TS} {xs : List Nat} (h : LN z xs) (h0 : sx z' 66 = sx z 66) (h1 : ∀ j, sf z' 67 j = sf z 67 j) : LN z' xs := ⟨h0.trans h.1, fun j hj => (h1 j).trans (h.2 j hj)⟩
theorem LN.snoc {z z' : TS} {xs : List Nat} {n : Nat} (h : LN z xs) (h0 : sx z' 66 = nI (xs.length + 1)) (h1 : ∀ j, j ≠ xs.length → sf z' 67 j = sf z 67 j) (h2 : sf z' 67 xs.length = nI n) : LN z' (xs ++ [n]) := by
  refine ⟨by rw [List.length_append]; exact h0, fun j hj => ?_⟩
  rw [List.length_append, List.length_singleton] at hj
  by_cases e : j = xs.length
  · subst e
    rw [List.getElem_append_right (Nat.le_refl _)]
    simp only [Nat.sub_self, List.getElem_cons_zero]
    exact h2
  · rw [List.getElem_append_left (by omega), h1 j e]
    exact h.2 j (by omega)
theorem ct_lt {E : Ed} {ct : Nat → Nat} (ho : EdOk E) (hl : (eCn E).length ≤ 400) (hc : EdCt E ct) : ∀ (m i : Nat), i < (eCn E).length → (eCn E).length - i ≤ m → ct i < (eCh E).length := by
  intro m
  induction m with
  | zero => intro i hi hm; omega
  | succ m ih =>
    intro i hi hm
    rcases hc.2.2.1 i hi with ⟨n, x, h1, h2, h3⟩ | ⟨j, k, h1, h2, h3⟩
    · rw [← h3, (hc.1 n x h1 h2).1]
      exact (ho.2.1 n x h1).2.2
    · have hj : j < (eCn E).length := by
        rcases Nat.lt_or_ge j (eCn E).length with z | z
        · exact z
        · rw [List.getElem?_eq_none z] at h1; cases h1
      have hjm := ih j hj (by omega)
      obtain ⟨c1, c2⟩ := hc.2.1 j k h1
      rcases h3 with ⟨a1, a2 | a2⟩ | ⟨a1, a2⟩
      · rw [← a2, (c1 a1).1]; exact hjm
      · rw [← a2, (c1 a1).2]; exact hjm
      · rw [← a2, c2 a1]; exact hjm
theorem mk_all {E : Ed} {ct : Nat → Nat} {z : TS} {d : Nat} (hc : EdCt E ct) (hS : ∀ (n : Nat) (x : Nd), (eNd E)[n]? = some x → x.1 < 0 → ∃ S, S x.2.1 ∧ clo (eCn E) S ∧ ∀ j, S j → Mk9 z d ct j) : ∀ (m i : Nat), i < (eCn E).length → (eCn E).length - i ≤ m → ∃ S, S i ∧ clo (eCn E) S ∧ ∀ j, S j → Mk9 z d ct j := by
  intro m
  induction m with
  | zero => intro i hi hm; omega
  | succ m ih =>
    intro i hi hm
    rcases hc.2.2.1 i hi with ⟨n, x, h1, h2, h3⟩ | ⟨j, k, h1, h2, h3⟩
    · rw [← h3]; exact hS n x h1 h2
    · have hj : j < (eCn E).length := by
        rcases Nat.lt_or_ge j (eCn E).length with z | z
        · exact z
        · rw [List.getElem?_eq_none z] at h1; cases h1
      obtain ⟨S, s1, s2, s3⟩ := ih j hj (by omega)
      obtain ⟨c1, c2⟩ := s2 j k s1 h1
      refine ⟨S, ?_, s2, s3⟩
      rcases h3 with ⟨a1, a2 | a2⟩ | ⟨a1, a2⟩
      · rw [← a2]; exact (c1 a1).1
      · rw [← a2]; exact (c1 a1).2
      · rw [← a2]; exact c2 a1
theorem RS4 {E : Ed} {ct : Nat → Nat} {c r n : Nat} {sp : Int32} : RS E ct c r sp 4 0 n ↔ ∃ age day lv tp, age ≤ 120 ∧ 1 ≤ day ∧ day ≤ 400 ∧ lv ≤ 3 ∧ tp ≤ 9 ∧ (gn (evC sp (cmv E ct c age day lv tp)) (eNd E) (eCn E) 40 r).1 = n := by
  constructor
  · rintro ⟨age, h1, day, h2, lv, h3, tp, h4, h5⟩
    have h1 : inR 0 age := h1
    have h2 : inR 1 day := h2
    have h3 : inR 2 lv := h3
    have h4 : inR 3 tp := h4
    refine ⟨age, day, lv, tp, ?_, ?_, ?_, ?_, ?_, h5⟩
    · rcases h1 with z | z | z | z <;> omega
    · rcases h2 with z | z | z | z <;> omega
    · rcases h2 with z | z | z | z <;> omega
    · rcases h3 with z | z | z | z <;> omega
    · rcases h4 with z | z | z | z <;> omega
  · rintro ⟨age, day, lv, tp, h1, h2, h3, h4, h5, h6⟩
    exact ⟨age, Or.inl ⟨rfl, h1⟩, day, Or.inr (Or.inl ⟨rfl, h2, h3⟩), lv, Or.inr (Or.inr (Or.inl ⟨rfl, h4⟩)), tp, Or.inr (Or.inr (Or.inr ⟨rfl, h5⟩)), h6⟩
theorem tsp_laysLeaves {σ : TS} {d : Nat} {E : Ed} {ct : Nat → Nat} {post : TS → Prop} (en : sx σ 29 = nI d) (hR : RepT σ d E) (ho : EdOk E) (hc : EdCt E ct) (hp : ∀ z, LF σ z → LV z E → post z) : wp_laysLeaves post σ := by
  have hd := hR.1
  have hl40 : (eNd E).length ≤ 40 := hR.2.2.2.2.2.1.2.1
  have hl6 : (eCh E).length ≤ 6 := hR.2.1.2.1
  have hl400 : (eCn E).length ≤ 400 := hR.2.2.2.2.2.2.2.1
  intro z1 hz1
  refine ⟨fun n z x => ∃ c, x = nI c ∧ c ≤ (eCh E).length ∧ n = (eCh E).length - c ∧ LF σ z ∧ LN z (lvP E c), ⟨_, 0, rfl, Nat.zero_le _, rfl, by rw [hz1]; exact (LF.rf σ).ux (by omega), ⟨by rw [hz1, sx_ux, if_pos rfl]; rfl, fun j hj => absurd hj (Nat.not_lt_zero _)⟩⟩, ?_⟩
  rintro n z x ⟨c, rfl, hc1, rfl, hF, hN⟩
  have enz : sx z 29 = nI d := (hF.1 _ (by omega) (by omega)).trans en
  rw [enz]
  refine tsp_chapters hd (hR.l hF).2.1.1 ⟨fun hge => ?_, fun hlt => ?_⟩
  · have hcc := nle_of (by omega) hc1 hge
    subst hcc
    refine ⟨fun n z x => ∃ k, x = nI k ∧ k ≤ 40 ∧ n = 40 - k ∧ LF σ z ∧ LN z (lvs E) ∧ ∀ m, m < k → sf z 68 m = nI 0, ⟨_, 0, rfl, Nat.zero_le _, rfl, hF, hN, fun m hm => absurd hm (Nat.not_lt_zero _)⟩, ?_⟩
    rintro n z2 x ⟨k, rfl, hk, rfl, hF2, hN2, h68⟩
    refine ⟨fun hge2 => ?_, fun hlt2 => ?_⟩
    · have hkk := nle_of (by omega) hk hge2
      subst hkk
      refine ⟨fun n z x => ∃ k, x = nI k ∧ k ≤ (eNd E).length ∧ n = (eNd E).length - k ∧ LF σ z ∧ LN z (lvs E) ∧ (∀ m, m < 40 → sf z 68 m = nI 0) ∧ ∀ (m : Nat) (x : Nd), m < k → (eNd E)[m]? = some x → x.1 < 0 → ∃ S, S x.2.1 ∧ clo (eCn E) S ∧ ∀ j, S j → Mk9 z d ct j, ⟨_, 0, rfl, Nat.zero_le _, rfl, hF2, hN2, h68, fun m x hm => absurd hm (Nat.not_lt_zero _)⟩, ?_⟩
      rintro n z3 x ⟨k, rfl, hk3, rfl, hF3, hN3, h683, hS3⟩
      have en3 : sx z3 29 = nI d := (hF3.1 _ (by omega) (by omega)).trans en
      have hR3 := hR.l hF3
      rw [en3]
      refine tsp_nodes hd hR3.2.2.2.2.2.1.1 ⟨fun hge3 => ?_, fun hlt3 => ?_⟩
      · have hkk := nle_of (by omega) hk3 hge3
        subst hkk
        have hCT : CT z3 d E ct := fun i hi => by
          obtain ⟨S, s1, s2, s3⟩ := mk_all hc (fun n x h1 h2 => hS3 n x (by
            rcases Nat.lt_or_ge n (eNd E).length with z | z
            · exact z
            · rw [List.getElem?_eq_none z] at h1; cases h1) h1 h2) _ i hi (Nat.le_refl _)
          exact s3 i s1
        refine ⟨fun n z x => ∃ c, x = nI c ∧ c ≤ (eCh E).length ∧ n = (eCh E).length - c ∧ RF9 z3 z ∧ RB z (fun m => ∃ (c' : Nat) (h : c' < (eCh E).length), c' < c ∧ ∃ an, an < 64 ∧ RS E ct c' (ix (eCh E)[c'].2.2) (nI an) 4 0 m), ⟨_, 0, rfl, Nat.zero_le _, rfl, RF9.rf _, fun m hm => Or.inr ⟨h683 m hm, fun ⟨c', h, h2, _⟩ => absurd h2 (Nat.not_lt_zero _)⟩⟩, ?_⟩
        rintro n z4 x ⟨c, rfl, hc4, rfl, hF4, hB4⟩
        have en4 : sx z4 29 = nI d := (hF4.1 _ (by omega)).trans en3
        rw [en4]
        refine tsp_chapters hd (hR3.l hF4.l).2.1.1 ⟨fun hge4 => ?_, fun hlt4 => ?_⟩
        · have hcc := nle_of (by omega) hc4 hge4
          subst hcc
          have hN4 : LN z4 (lvs E) := hN3.same (hF4.1 _ (by omega)) (fun j => hF4.2.2 _ _ (by omega))
          refine hp z4 (hF3.tr hF4.l) ⟨hN4.1, ?_, fun j hj => ⟨hN4.2 j hj, ?_⟩, fun m hm => ?_⟩
          · have := lvP_le E (eCh E).length
            rw [lvs_eq]; omega
          · have := List.getElem_mem hj
            have this : (lvs E)[j] ∈ lvP E (eCh E).length := this
            obtain ⟨c', h1, h2⟩ := List.mem_flatMap.mp this
            exact List.mem_range.mp (List.mem_filter.mp h2).1
          · have hiff : rchP E m ↔ ∃ (c' : Nat) (h : c' < (eCh E).length), c' < (eCh E).length ∧ ∃ an, an < 64 ∧ RS E ct c' (ix (eCh E)[c'].2.2) (nI an) 4 0 m := by
              rw [rch_sets ho hl400 hc]
              constructor
              · rintro ⟨c', h, an, age, day, lv, tp, h1, h2, h3, h4, h5, h6, h7⟩
                exact ⟨c', h, h, an, h1, RS4.mpr ⟨age, day, lv, tp, h2, h3, h4, h5, h6, h7⟩⟩
              · rintro ⟨c', h, -, an, h1, h2⟩
                obtain ⟨age, day, lv, tp, g2, g3, g4, g5, g6, g7⟩ := RS4.mp h2
                exact ⟨c', h, an, age, day, lv, tp, h1, g2, g3, g4, g5, g6, g7⟩
            rcases hB4 m hm with ⟨h1, h2⟩ | ⟨h1, h2⟩
            · rw [h1, rch_iff.mpr (hiff.mpr h2)]; rfl
            · have : rch E m = false := by
                cases e : rch E m with
                | false => rfl
                | true => exact absurd (hiff.mp (rch_iff.mp e)) h2
              rw [h1, this]; exact nI_0
        · have hc5 := nlt_of (by omega) hc4 hlt4
          obtain ⟨r, hr1, hr2⟩ := ho.2.2.1 _ (List.getElem_mem hc5)
          have hr3 : ix (eCh E)[c].2.2 = r := by rw [hr1, ix, nI_clamp (by omega)]
          refine tsp_laysReached en4 (hR3.l hF4.l) ho (hCT.r hF4) (fun k hk => by have := ct_lt ho hl400 hc _ k hk (Nat.le_refl _); omega) hc5 hr1 hr2 hB4 (fun z5 hF5 hB5 => ⟨(eCh E).length - (c + 1), by omega, c + 1, by rw [nI_add], by omega, rfl, hF4.tr hF5, hB5.iff (fun m => ?_)⟩)
          constructor
          · rintro (⟨c', h1, h2, h3⟩ | h)
            · exact ⟨c', h1, by omega, h3⟩
            · exact ⟨c, hc5, by omega, by rw [hr3]; exact h⟩
          · rintro ⟨c', h1, h2, h3⟩
            by_cases e : c' = c
            · subst e; rw [hr3] at h3; exact Or.inr h3
            · exact Or.inl ⟨c', h1, by omega, h3⟩
      · have hk4 := nlt_of (by omega) hk3 hlt3
        have hx : (eNd E)[k]? = some (eNd E)[k] := List.getElem?_eq_getElem hk4
        obtain ⟨g1, g2, g3⟩ := hR3.2.2.2.2.2.1.2.2 k hk4
        have hvp : vp_in (nI (40 * d + k)) 120 := vp_inN (by omega) (by omega)
        rw [en3, nI_mul 40 d, nI_add (40 * d) k, nI_clamp (show 40 * d + k < 2 ^ 31 by omega), g1, g2]
        refine ⟨hvp, fun hge4 => ⟨(eNd E).length - (k + 1), by omega, k + 1, by rw [nI_add], by omega, rfl, hF3, hN3, h683, fun m x hm h1 h2 => ?_⟩, fun hlt4 => ⟨hvp, hvp, ?_⟩⟩
        · by_cases e : m = k
          · subst e
            rw [hx] at h1
            cases h1
            exact absurd h2 (Int32.not_lt.mpr hge4)
          · exact hS3 m x (by omega) h1 h2
        · have hneg : (eNd E)[k].1 < 0 := Int32.not_le.mp hlt4
          obtain ⟨u1, u2, u3, u4, u5⟩ := (ho.2.1 k _ hx).1 hneg
          obtain ⟨w21, w22, w23⟩ := g3 (by omega)
          rw [w21]
          refine tsp_marks hd hl400 ho.1 hc.2.1 _ _ _ _ u5 (by show _ < 401; omega) (hc.1 k _ hx hneg).1 en3 hR3.2.2.2.2.2.2 (fun z' hK hm hS => ⟨(eNd E).length - (k + 1), by omega, k + 1, by rw [nI_add], by omega, rfl, hF3.tr hK.l, hN3.same (hK.1 _) (fun j => hK.2.2 _ _ (by omega)), fun m hm2 => (hK.2.2 _ _ (by omega)).trans (h683 m hm2), fun m x hm2 h1 h2 => ?_⟩)
          by_cases e : m = k
          · subst e
            rw [hx] at h1
            cases h1
            exact hS
          · obtain ⟨S, s1, s2, s3⟩ := hS3 m x (by omega) h1 h2
            exact ⟨S, s1, s2, fun j hj => hm j (s3 j hj)⟩
    · have hk3 := nlt_of (by omega) hk hlt2
      rw [nI_clamp (show k < 2 ^ 31 by omega)]
      refine ⟨vp_inN (by omega) (by omega), fun z50 hz50 => ⟨40 - (k + 1), by omega, k + 1, by rw [nI_add], by omega, rfl, by rw [hz50]; exact hF2.uf (by omega), hN2.same (by rw [hz50, sx_uf]) (fun j => by rw [hz50, sf_uf, if_neg (by omega)]), fun m hm => ?_⟩⟩
      rw [hz50, sf_uf]
      by_cases e : m = k
      · subst e; rw [if_pos ⟨rfl, rfl⟩]
      · rw [if_neg (by omega)]; exact h68 m (by omega)
  · have hc2 := nlt_of (by omega) hc1 hlt
    refine ⟨fun m z x => ∃ k, x = nI k ∧ k ≤ (eNd E).length ∧ m = (eNd E).length - k ∧ LF σ z ∧ LN z (lvP E c ++ (List.range k).filter (pLf E c)), ⟨_, 0, rfl, Nat.zero_le _, rfl, hF, by rw [List.range_zero, List.filter_nil, List.append_nil]; exact hN⟩, ?_⟩
    rintro m z2 x ⟨k, rfl, hk, rfl, hF2, hN2⟩
    have en2 : sx z2 29 = nI d := (hF2.1 _ (by omega) (by omega)).trans en
    have hR2 := hR.l hF2
    rw [en2]
    refine tsp_nodes hd hR2.2.2.2.2.2.1.1 ⟨fun hge2 => ?_, fun hlt2 => ?_⟩
    · have hkk := nle_of (by omega) hk hge2
      subst hkk
      exact ⟨(eCh E).length - (c + 1), by omega, c + 1, by rw [nI_add], by omega, rfl, hF2, by rw [lvP_succ]; exact hN2⟩
    · have hk2 := nlt_of (by omega) hk hlt2
      have hx : (eNd E)[k]? = some (eNd E)[k] := List.getElem?_eq_getElem hk2
      obtain ⟨g1, g2, g3⟩ := hR2.2.2.2.2.2.1.2.2 k hk2
      have hvp : vp_in (nI (40 * d + k)) 120 := vp_inN (by omega) (by omega)
      have hch := (ho.2.1 k _ hx).2.2
      have hsucc : (List.range (k + 1)).filter (pLf E c) = (List.range k).filter (pLf E c) ++ (if pLf E c k then [k] else []) := by
        rw [List.range_succ, List.filter_append]
        congr 1
        cases e : pLf E c k <;> simp [e]
      rw [en2, nI_mul 40 d, nI_add (40 * d) k, nI_clamp (show 40 * d + k < 2 ^ 31 by omega), g1, g2]
      refine ⟨hvp, fun hneg => ⟨(eNd E).length - (k + 1), by omega, k + 1, by rw [nI_add], by omega, rfl, hF2, ?_⟩, fun hpos => ⟨hvp, fun heq => ?_, fun hne => ⟨(eNd E).length - (k + 1), by omega, k + 1, by rw [nI_add], by omega, rfl, hF2, ?_⟩⟩⟩
      · have : pLf E c k = false := by unfold pLf; rw [hx]; simp [hneg]
        rw [hsucc, this]
        simp only [Bool.false_eq_true, if_false, List.append_nil]
        exact hN2
      · have hcc : (eNd E)[k].2.2.2.2 = c := (nI_eq (by omega) (by omega)).mp heq
        have hpl : pLf E c k = true := by unfold pLf; rw [hx]; simp [hpos, hcc]
        have hlen := flt_le E c (k + 1) (by omega)
        have hle := lvP_le E (c + 1)
        rw [lvP_succ, List.length_append] at hle
        rw [hsucc, hpl, if_pos rfl, List.length_append, List.length_singleton] at hlen
        have s66 := hN2.1
        rw [List.length_append] at s66
        rw [s66, nI_clamp (show (lvP E c).length + ((List.range k).filter (pLf E c)).length < 2 ^ 31 by omega)]
        refine ⟨vp_inN (by omega) (by omega), fun z68 hz68 z69 hz69 => ⟨(eNd E).length - (k + 1), by omega, k + 1, by rw [nI_add], by omega, rfl, by rw [hz69, hz68]; exact (hF2.uf (by omega)).ux (by omega), ?_⟩⟩
        rw [hsucc, hpl, if_pos rfl, ← List.append_assoc]
        refine hN2.snoc ?_ (fun j hj => ?_) ?_
        · rw [hz69, sx_ux, if_pos rfl, hz68, sx_uf, s66, nI_add, List.length_append]
        · rw [List.length_append] at hj
          rw [hz69, sf_ux, hz68, sf_uf, if_neg (by omega)]
        · rw [List.length_append, hz69, sf_ux, hz68, sf_uf, if_pos ⟨rfl, rfl⟩]
      · have hcc : ¬ (eNd E)[k].2.2.2.2 = c := fun z => hne (by rw [z])
        have : pLf E c k = false := by unfold pLf; rw [hx]; simp [hcc]
        rw [hsucc, this]
        simp only [Bool.false_eq_true, if_false, List.append_nil]
        exact hN2
theorem tc_swap {σ : TS} {M : MS} {post : Bool → TS → Prop} (h : TR σ M) (h0 : mK M = none → ∀ σ', TR σ' M → post false σ') (h1 : ∀ K σ', mK M = some K → TR σ' (K, some (mE M), mS M, mT M, mF M) → post true σ') (hct : ∀ K, mK M = some K → ∃ ct, EdCt K ct) : wp_swap post σ := by
  intro z1 hz1
  have h' : TR z1 M := by rw [hz1]; exact h.t
  obtain ⟨a, b, c, ⟨l1, l2, l3, n1, n2, n3⟩, g2, g3, g4, g5, g6, g7, g8, g9, g10, g11⟩ := id h'
  cases eK : mK M with
  | none =>
    rw [eK] at g7
    exact ⟨fun z => absurd g7 z, fun _ => h0 eK z1 h'⟩
  | some K =>
    rw [eK] at g7
    obtain ⟨k1, k2, k3⟩ := g7
    refine ⟨fun _ x3 hx3 z4 hz4 z5 hz5 => ?_, fun z => absurd (k1.symm.trans z) (by decide)⟩
    obtain ⟨ct, hc⟩ := hct K eK
    rw [g2] at hx3
    rw [g3] at hz4
    subst hx3
    have f5 : ∀ x j, sf z5 x j = sf z1 x j := fun x j => by rw [hz5, sf_ux, hz4, sf_ux]
    have q5 : ∀ x j, sg z5 x j = sg z1 x j := fun x j => by rw [hz5, sg_ux, hz4, sg_ux]
    have s29 : sx z5 29 = nI b := by rw [hz5, sx_ux, if_neg (by omega), hz4, sx_ux, if_pos rfl]
    have s30 : sx z5 30 = nI a := by rw [hz5, sx_ux, if_pos rfl]
    have so : ∀ k, k ≠ 29 → k ≠ 30 → sx z5 k = sx z1 k := fun k e1 e2 => by rw [hz5, sx_ux, if_neg e2, hz4, sx_ux, if_neg e1]
    have hRb : RepT z5 b K := k2.same (fun x j _ _ _ => f5 x j) (fun x j _ _ => q5 x j)
    have hRa : RepT z5 a (mE M) := g5.same (fun x j _ _ _ => f5 x j) (fun x j _ _ => q5 x j)
    refine tsp_laysLeaves s29 hRb k3 hc (fun z hF hV => h1 K z eK ?_)
    have sz : ∀ k, k ≠ 29 → k ≠ 30 → k ≠ 66 → k ≠ 71 → sx z k = sx z1 k := fun k e1 e2 e3 e4 => (hF.1 k e3 e4).trans (so k e1 e2)
    have fz : ∀ x j, x < 67 → sf z x j = sf z1 x j := fun x j hx => (hF.2.2 x j hx).trans (f5 x j)
    exact ⟨b, a, c, ⟨l2, l1, l3, n1.symm, n3, n2⟩, (hF.1 _ (by omega) (by omega)).trans s29, (hF.1 _ (by omega) (by omega)).trans s30, (sz _ (by omega) (by omega) (by omega) (by omega)).trans g4, hRb.l hF, k3, ⟨(sz _ (by omega) (by omega) (by omega) (by omega)).trans k1, hRa.l hF, g6⟩, g8.same (sz _ (by omega) (by omega) (by omega) (by omega)) (fun x j _ _ => fz x j (by omega)), hV, g10.same (sz _ (by omega) (by omega) (by omega) (by omega)) (fun j => fz 0 j (by omega)), (sz _ (by omega) (by omega) (by omega) (by omega)).trans g11⟩
