/-! Names, packed -/
set_option maxRecDepth 100000
def pkN (bs : List Nat) : Nat := bs.foldl (fun v c => 256 * v + c) 0
theorem pkN_snoc (bs : List Nat) (b : Nat) : pkN (bs ++ [b]) = 256 * pkN bs + b := by
  unfold pkN
  rw [List.foldl_append]
  rfl
theorem pk_snoc (bs : List Nat) (b : Nat) : pk (bs ++ [b]) = 256 * pk bs + Int64.ofNat b := by
  unfold pk
  rw [List.foldl_append]
  rfl
theorem pk_lN (bs : List Nat) : pk bs = lN (pkN bs) := by
  have h : ∀ (bs : List Nat) (v : Nat), bs.foldl (fun v c => 256 * v + Int64.ofNat c) (lN v) = lN (bs.foldl (fun v c => 256 * v + c) v) := by
    intro bs
    induction bs with
    | nil => intro v; rfl
    | cons a t ih =>
      intro v
      rw [List.foldl_cons, List.foldl_cons, ← ih]
      congr 1
      show lN 256 * lN v + lN a = lN (256 * v + a)
      rw [lN_mul, lN_add]
  exact h bs 0
theorem pkN_lt : ∀ (n : Nat) (bs : List Nat), bs.length = n → (∀ b ∈ bs, b < 128) → 2 * pkN bs < 256 ^ n := by
  intro n
  induction n with
  | zero =>
    intro bs hl _
    rw [List.length_eq_zero_iff.mp hl]
    decide
  | succ n ih =>
    intro bs hl hb
    rcases List.eq_nil_or_concat bs with e | ⟨t, b, e⟩
    · rw [e] at hl; cases hl
    · rw [List.concat_eq_append] at e
      subst e
      rw [List.length_append, List.length_singleton] at hl
      have h1 := ih t (by omega) (fun x hx => hb x (List.mem_append_left _ hx))
      have h2 := hb b (List.mem_append_right _ (List.mem_singleton.mpr rfl))
      rw [pkN_snoc, Nat.pow_succ]
      omega
theorem pkN_63 {bs : List Nat} (hl : bs.length ≤ 8) (hb : ∀ b ∈ bs, b < 128) : pkN bs < 2 ^ 63 := by
  have h1 := pkN_lt bs.length bs rfl hb
  have h2 : 256 ^ bs.length ≤ 256 ^ 8 := Nat.pow_le_pow_right (by omega) hl
  have h3 : (256 : Nat) ^ 8 = 2 * 2 ^ 63 := by decide
  omega
theorem pkN_inj : ∀ (n : Nat) (a b : List Nat), a.length = n → (∀ x ∈ a, 0 < x ∧ x < 256) → (∀ x ∈ b, 0 < x ∧ x < 256) → pkN a = pkN b → a = b := by
  intro n
  induction n with
  | zero =>
    intro a b hl ha hb h
    have ea := List.length_eq_zero_iff.mp hl
    subst ea
    rcases List.eq_nil_or_concat b with e | ⟨t, x, e⟩
    · exact e.symm
    · rw [List.concat_eq_append] at e
      subst e
      rw [pkN_snoc] at h
      have := hb x (List.mem_append_right _ (List.mem_singleton.mpr rfl))
      have h0 : pkN [] = 0 := rfl
      omega
  | succ n ih =>
    intro a b hl ha hb h
    rcases List.eq_nil_or_concat a with e | ⟨t, x, e⟩
    · rw [e] at hl; cases hl
    · rw [List.concat_eq_append] at e
      subst e
      have hx := ha x (List.mem_append_right _ (List.mem_singleton.mpr rfl))
      rw [List.length_append, List.length_singleton] at hl
      rw [pkN_snoc] at h
      rcases List.eq_nil_or_concat b with e | ⟨t2, x2, e⟩
      · rw [e] at h
        have h0 : pkN [] = 0 := rfl
        omega
      · rw [List.concat_eq_append] at e
        subst e
        have hx2 := hb x2 (List.mem_append_right _ (List.mem_singleton.mpr rfl))
        rw [pkN_snoc] at h
        have h1 : x = x2 := by omega
        have h2 : pkN t = pkN t2 := by omega
        rw [ih t t2 (by omega) (fun z hz => ha z (List.mem_append_left _ hz)) (fun z hz => hb z (List.mem_append_left _ hz)) h2, h1]
/-- a name: one to eight small letters -/
def isNm (bs : List Nat) : Prop := 1 ≤ bs.length ∧ bs.length ≤ 8 ∧ ∀ b ∈ bs, 97 ≤ b ∧ b ≤ 122
theorem lN_inj {a b : Nat} (ha : a < 2 ^ 63) (hb : b < 2 ^ 63) (h : lN a = lN b) : a = b := by
  have := congrArg Int64.toInt h
  rw [lN, lN, Int64.toInt_ofNat_of_lt ha, Int64.toInt_ofNat_of_lt hb] at this
  omega
theorem pk_inj {a b : List Nat} (ha : isNm a) (hb : isNm b) : pk a = pk b ↔ a = b := by
  refine ⟨fun h => ?_, fun h => by rw [h]⟩
  rw [pk_lN, pk_lN] at h
  have h1 := lN_inj (pkN_63 ha.2.1 (fun x hx => by have := ha.2.2 x hx; omega)) (pkN_63 hb.2.1 (fun x hx => by have := hb.2.2 x hx; omega)) h
  exact pkN_inj a.length a b rfl (fun x hx => by have := ha.2.2 x hx; omega) (fun x hx => by have := hb.2.2 x hx; omega) h1
theorem lN_div {n : Nat} (h : n < 2 ^ 63) : lN n / 256 = lN (n / 256) := by
  refine Int64.toInt_inj.mp ?_
  rw [Int64.toInt_div_of_ne_right _ _ (by decide), lN, lN, Int64.toInt_ofNat_of_lt h, Int64.toInt_ofNat_of_lt (by omega)]
  have : (256 : Int64).toInt = 256 := by decide
  rw [this, Int.tdiv_eq_ediv_of_nonneg (by omega)]
  omega
theorem lN_pos {n : Nat} (h : n < 2 ^ 63) : lN n ≤ 0 ↔ n = 0 := by
  rw [Int64.le_iff_toInt_le, lN, Int64.toInt_ofNat_of_lt h]
  have : (0 : Int64).toInt = 0 := by decide
  rw [this]
  omega
theorem pkN_take {bs : List Nat} {m : Nat} (hm : m < bs.length) : pkN (bs.take (m + 1)) = 256 * pkN (bs.take m) + bs[m] := by
  rw [List.take_succ_eq_append_getElem hm, pkN_snoc]
theorem tc_name {σ : TS} {M : MS} {k i : Int32} {post : Int32 → TS → Prop} (h : TR σ M) (hp : ∀ σ', TR σ' M → post (aName (mE M) k i) σ') : wp_name_2 post σ k i := by
  intro z1 hz1
  have h' : TR z1 M := by rw [hz1]; exact h.t
  obtain ⟨a, ha, en, hR, ho, hV⟩ := h'.now
  obtain ⟨c1, c2, c3⟩ := hR.2.2.2.2.1
  have hp' := hp z1 h'
  rw [en]
  refine tsp_classes ha c1 (tsp_within ⟨fun hb => ?_, fun hb => ?_⟩)
  · rw [aName, show isSt (eCl (mE M)).length k = false from hb] at hp'
    exact hp'
  · rw [aName, show isSt (eCl (mE M)).length k = true from hb, if_pos rfl] at hp'
    obtain ⟨c, hc, rfl⟩ := (isSt_iff (by omega)).mp (show isSt (eCl (mE M)).length k = true from hb)
    refine ⟨fun h0 => ?_, fun h0 => ?_⟩
    · obtain ⟨i, hi, rfl⟩ := nI_of (Int32.not_lt.mpr h0)
      obtain ⟨n1, n2, n3⟩ := ho.2.2.2 _ (List.getElem_mem hc)
      rw [if_neg (Int32.not_lt.mpr h0), ix, nI_clamp (show c < 2 ^ 31 by omega), List.getElem?_eq_getElem hc, Option.map_some, Option.getD_some] at hp'
      dsimp only at hp'
      rw [en, nI_mul, nI_add, nI_clamp (show 16 * a + c < 2 ^ 31 by omega), (c3 c hc).1, pk_lN]
      generalize (eCl (mE M))[c].1 = bs at n1 n2 n3 hp'
      have hlt : ∀ m, pkN (bs.take m) < 2 ^ 63 := fun m => pkN_63 (by rw [List.length_take]; omega) (fun x hx => by have := n3 x (List.mem_of_mem_take hx); omega)
      have hdv : ∀ m, m < bs.length → pkN (bs.take (m + 1)) / 256 = pkN (bs.take m) := fun m hm => by
        rw [pkN_take hm]
        have := n3 _ (List.getElem_mem hm)
        omega
      have hall : bs.take bs.length = bs := List.take_of_length_le (Nat.le_refl _)
      refine ⟨vp_inN (by omega) (by omega), fun w8 hw8 => ?_⟩
      subst hw8
      refine ⟨fun n z x w => z = z1 ∧ ∃ t, x = nI t ∧ t ≤ bs.length ∧ n = bs.length - t ∧ w = lN (pkN (bs.take (bs.length - t))), ⟨_, rfl, 0, rfl, Nat.zero_le _, rfl, by rw [Nat.sub_zero, hall]⟩, ?_⟩
      rintro n z x w ⟨hz, t, rfl, ht, rfl, rfl⟩
      subst hz
      refine ⟨fun hle => ?_, fun hgt w33 hw33 => ?_⟩
      · have hz0 := (lN_pos (hlt _)).mp hle
        have ht2 : t = bs.length := by
          rcases Nat.lt_or_ge t bs.length with z2 | z2
          · obtain ⟨m, hm⟩ : ∃ m, bs.length - t = m + 1 := ⟨bs.length - t - 1, by omega⟩
            rw [hm, pkN_take (by omega)] at hz0
            have := n3 _ (List.getElem_mem (show m < bs.length by omega))
            omega
          · omega
        subst ht2
        refine ⟨fun hil => ?_, fun hil => ?_⟩
        · have hil2 := (nI_ltI hi (by omega)).mp hil
          intro x19 hx19
          rw [nI_sub (by omega)] at hx19
          subst hx19
          rw [if_pos hil] at hp'
          refine ⟨fun n z2 w x => z2 = z ∧ ∃ c2, x = nI c2 ∧ i ≤ c2 ∧ c2 < bs.length ∧ n = c2 ∧ w = lN (pkN (bs.take (c2 + 1))), ⟨_, rfl, bs.length - 1, rfl, by omega, by omega, rfl, by rw [show bs.length - 1 + 1 = bs.length by omega, hall]⟩, ?_⟩
          rintro c4 z2 w x ⟨hz2, c5, rfl, hic, hcl, rfl, rfl⟩
          subst hz2
          refine ⟨fun hle2 => ?_, fun hle2 w29 hw29 => ?_⟩
          · have hc2 : c4 = i := by
              have := (nI_leI (by omega) hi).mp hle2
              omega
            subst hc2
            have e1 : lN (pkN (bs.take (c4 + 1))) - lN (pkN (bs.take (c4 + 1))) / 256 * 256 = lN bs[c4] := by
              rw [lN_div (hlt _), hdv c4 hcl]
              show lN _ - lN _ * lN 256 = _
              rw [lN_mul, lN_sub (by rw [pkN_take hcl]; omega), pkN_take hcl]
              congr 1
              omega
            rw [e1, lN_i]
            simp only [ix, nI_clamp hi, List.getD_eq_getElem?_getD, List.getElem?_eq_getElem hcl, Option.getD_some] at hp'
            exact hp'
          · have hc2 : i < c4 := by
              rcases Nat.lt_or_ge i c4 with z3 | z3
              · exact z3
              · exact absurd (nI_le z3 hi) hle2
            rw [lN_div (hlt _), hdv c4 hcl] at hw29
            refine ⟨c4 - 1, by omega, rfl, c4 - 1, ?_, by omega, by omega, rfl, by rw [show c4 - 1 + 1 = c4 by omega]; exact hw29⟩
            have := nI_dec (c4 - 1)
            rw [show c4 - 1 + 1 = c4 by omega] at this
            exact this
        · rw [if_neg hil] at hp'
          exact hp'
      · have ht2 : t < bs.length := by
          rcases Nat.lt_or_ge t bs.length with z2 | z2
          · exact z2
          · refine absurd ((lN_pos (hlt _)).mpr ?_) hgt
            rw [show bs.length - t = 0 by omega]
            rfl
        obtain ⟨m, hm⟩ : ∃ m, bs.length - t = m + 1 := ⟨bs.length - t - 1, by omega⟩
        rw [hm, lN_div (hlt _), hdv m (by omega)] at hw33
        exact ⟨bs.length - (t + 1), by omega, rfl, t + 1, by rw [nI_add], by omega, rfl, by rw [hw33, show bs.length - (t + 1) = m by omega]⟩
    · rw [if_pos (Int32.not_le.mp h0)] at hp'
      exact hp'
theorem tc_ofClass {σ : TS} {M : MS} {k w : Int32} {post : Int32 → TS → Prop} (h : TR σ M) (hp : ∀ σ', TR σ' M → post (aOfClass (mE M) (mS M) k w) σ') : wp_ofClass post σ k w := by
  intro z1 hz1
  have h' : TR z1 M := by rw [hz1]; exact h.t
  obtain ⟨a, ha, en, hR, ho, hV⟩ := h'.now
  obtain ⟨c1, c2, c3⟩ := hR.2.2.2.2.1
  have hl := h'.sr.2.1
  rw [en]
  refine tsp_classes ha c1 (tsp_within ⟨fun hb => ?_, fun hb => ?_⟩)
  · have hp' := hp z1 h'
    rw [aOfClass, show isSt (eCl (mE M)).length k = false from hb] at hp'
    exact hp'
  · rw [aOfClass, show isSt (eCl (mE M)).length k = true from hb] at hp
    simp only [if_true] at hp
    obtain ⟨c, hc, rfl⟩ := (isSt_iff (by omega)).mp (show isSt (eCl (mE M)).length k = true from hb)
    have e01 : ¬ (nI 1 = nI 0) := by decide
    have e02 : ¬ (nI 2 = nI 0) := by decide
    have e12 : ¬ (nI 2 = nI 1) := by decide
    refine tsp_within ⟨fun hb2 => ⟨fun hw0 => ?_, fun hw0 => ?_⟩, fun hb2 => ?_⟩
    · have hw12 : w = nI 1 ∨ w = nI 2 := by
        have hb' := wthn_iff.mp hb2
        rw [nI_toInt (by omega), nI_toInt (by omega)] at hb'
        have h0 : w.toInt ≠ 0 := fun z => hw0 (Int32.toInt_inj.mp z)
        rcases (show w.toInt = 1 ∨ w.toInt = 2 by omega) with z | z
        · exact Or.inl (Int32.toInt_inj.mp (z.trans (nI_toInt (n := 1) (by omega)).symm))
        · exact Or.inr (Int32.toInt_inj.mp (z.trans (nI_toInt (n := 2) (by omega)).symm))
      refine ⟨fun z x => TR z M ∧ (w = nI 1 → x = cnt (lfOf (mE M) (nI c)) (lvs (mE M))) ∧ (¬ w = nI 1 → x = nI 0), ?_, fun hw1 => ⟨h', fun z => absurd z hw1, fun _ => rfl⟩, fun hw1 => ?_⟩
      · rintro z x ⟨hz, hx1, hx2⟩
        refine ⟨fun hw2 => ?_, fun hw2 => ?_⟩
        · have hw1 : w = nI 1 := by
            rcases hw12 with z | z
            · exact z
            · exact absurd z hw2
          have := hp z hz
          rw [hw1, if_neg e01, if_pos rfl] at this
          rw [hx1 hw1]
          exact this
        · rw [hx2 (by rw [hw2]; exact e12)]
          rw [hw2, if_neg e02, if_neg e12, if_pos rfl] at hp
          refine ⟨fun n z x21 x22 => TR z M ∧ ∃ j, x22 = nI j ∧ j ≤ (mS M).length ∧ n = (mS M).length - j ∧ x21 = nI (((mS M).take j).countP (fun s => decide (lkK (mE M) s = nI c))), ⟨_, hz, 0, rfl, Nat.zero_le _, rfl, rfl⟩, ?_⟩
          rintro n z2 x21 x22 ⟨hz2, j, rfl, hj, rfl, rfl⟩
          rw [hz2.sr.1]
          refine ⟨fun hge => ?_, fun hlt => ?_⟩
          · have hh := nle_of (by omega) hj hge
            have := hp z2 hz2
            rw [List.take_of_length_le (by omega)]
            exact this
          · have hj2 := nlt_of (by omega) hj hlt
            obtain ⟨a2, ha2, en2, hR2, ho2, -⟩ := hz2.now
            rw [en2]
            refine tsp_classFor hR2 ho2 hz2.sr hj2 (fun σ' q => ⟨fun hne => ⟨(mS M).length - (j + 1), by omega, hz2.q q, j + 1, by rw [nI_add], by omega, rfl, ?_⟩, fun he => ⟨(mS M).length - (j + 1), by omega, hz2.q q, j + 1, by rw [nI_add], by omega, rfl, ?_⟩⟩)
            · rw [countP_succ hj2, decide_eq_false hne]; rfl
            · rw [countP_succ hj2, decide_eq_true he, nI_add]; rfl
      · refine ⟨fun n z x38 x39 => z = z1 ∧ ∃ j, x39 = nI j ∧ j ≤ (lvs (mE M)).length ∧ n = (lvs (mE M)).length - j ∧ x38 = nI (((lvs (mE M)).take j).countP (lfOf (mE M) (nI c))), ⟨_, rfl, 0, rfl, Nat.zero_le _, rfl, rfl⟩, ?_⟩
        rintro n z x38 x39 ⟨hz, j, rfl, hj, rfl, rfl⟩
        subst hz
        obtain ⟨v1, v2, v3, v4⟩ := hV
        rw [v1]
        refine ⟨fun hge => ?_, fun hlt => ?_⟩
        · have hh := nle_of (by omega) hj hge
          rw [List.take_of_length_le (by omega)]
          exact ⟨h', fun _ => rfl, fun z => absurd hw1 z⟩
        · have hj2 := nlt_of (by omega) hj hlt
          obtain ⟨u1, u2⟩ := v3 j hj2
          have h40 : (eNd (mE M)).length ≤ 40 := hR.2.2.2.2.2.1.2.1
          have g1 := (hR.2.2.2.2.2.1.2.2 _ u2).1
          have hlf : lfOf (mE M) (nI c) (lvs (mE M))[j] = decide ((eNd (mE M))[(lvs (mE M))[j]].1 = nI c) := by
            rw [lfOf, List.getElem?_eq_getElem u2, Option.map_some, Option.getD_some]
          rw [nI_clamp (show j < 2 ^ 31 by omega), u1, en, nI_mul, nI_add (40 * a), nI_clamp (show 40 * a + (lvs (mE M))[j] < 2 ^ 31 by omega), g1]
          refine ⟨vp_inN (by omega) (by omega), vp_inN (by omega) (by omega), fun hne => ⟨(lvs (mE M)).length - (j + 1), by omega, rfl, j + 1, by rw [nI_add], by omega, rfl, ?_⟩, fun he => ⟨(lvs (mE M)).length - (j + 1), by omega, rfl, j + 1, by rw [nI_add], by omega, rfl, ?_⟩⟩
          · rw [countP_succ hj2, hlf, decide_eq_false hne]; rfl
          · rw [countP_succ hj2, hlf, decide_eq_true he, nI_add]; rfl
    · have hp' := hp z1 h'
      rw [if_pos (by rw [nI_0]; exact hw0), ix, nI_clamp (show c < 2 ^ 31 by omega), List.getElem?_eq_getElem hc, Option.map_some, Option.getD_some] at hp'
      rw [en, nI_mul, nI_add, nI_clamp (show 16 * a + c < 2 ^ 31 by omega), (c3 c hc).2]
      exact ⟨vp_inN (by omega) (by omega), hp'⟩
    · have hp' := hp z1 h'
      have hb' : ∀ z, z = w → ¬ (wthn z (nI 0) (nI 2) = true) := fun z e z2 => by rw [e, hb2] at z2; cases z2
      rw [if_neg (fun z => hb' _ z.symm (by decide)), if_neg (fun z => hb' _ z.symm (by decide)), if_neg (fun z => hb' _ z.symm (by decide))] at hp'
      exact hp'
