/-! The model's tape -/
set_option maxRecDepth 100000
/-- the byte i of a long -/
def b8 (v : Int64) (i : Nat) : Int32 := ((v >>> ((nI 56 - nI (8 * i)).toInt64 &&& 63)).toInt32) &&& nI 255
def by8 (v : Int64) : List Nat := (List.range 8).map (fun i => (b8 v i).toNatClampNeg)
theorem and255 (x : Int32) : ∃ n, n < 256 ∧ x &&& nI 255 = nI n := by
  refine ⟨(x.toBitVec &&& 255#32).toNat, ?_, ?_⟩
  · rw [BitVec.toNat_and]
    exact Nat.lt_of_le_of_lt Nat.and_le_right (by decide)
  · apply Int32.toBitVec_inj.mp
    show x.toBitVec &&& (nI 255).toBitVec = BitVec.ofNat 32 _
    rw [BitVec.ofNat_toNat, BitVec.setWidth_eq]
    rfl
theorem b8_lt (v : Int64) (i : Nat) : (b8 v i).toNatClampNeg < 256 ∧ b8 v i = nI (b8 v i).toNatClampNeg := by
  obtain ⟨n, h1, h2⟩ := and255 ((v >>> ((nI 56 - nI (8 * i)).toInt64 &&& 63)).toInt32)
  unfold b8
  rw [h2, nI_clamp (by omega)]
  exact ⟨h1, rfl⟩
theorem by8_len (v : Int64) : (by8 v).length = 8 := by rw [by8, List.length_map, List.length_range]
theorem by8_lt (v : Int64) : ∀ b ∈ by8 v, b < 256 := by
  intro b hb
  obtain ⟨i, -, rfl⟩ := List.mem_map.mp hb
  exact (b8_lt v i).1
theorem e8 : ∀ i, i < 8 → (nI 56 - nI (8 * i)) + (-8) = nI 56 - nI (8 * (i + 1)) ∧ ¬ (nI 56 - nI (8 * i)) < 0 := by decide
def aFeed (tp : List Nat) (a b c : Int64) : Int32 × List Nat := if tp.length + 24 ≤ 936 then (nI (tp.length + 24), tp ++ by8 a ++ by8 b ++ by8 c) else (-1, tp)
def aEnd (tp : List Nat) (n : Int32) : Int32 × List Nat := if wthn n (nI 0) (nI tp.length) then (n, tp.take (ix n)) else (-1, tp)
/-- only the tape is another -/
def FF (σ σ' : TS) : Prop := (∀ k, k ≠ 1 → sx σ' k = sx σ k) ∧ (∀ a j, sg σ' a j = sg σ a j) ∧ ∀ a j, a ≠ 0 → sf σ' a j = sf σ a j
theorem FF.rf (σ : TS) : FF σ σ := ⟨fun _ _ => rfl, fun _ _ => rfl, fun _ _ _ => rfl⟩
theorem FF.tr {a b c : TS} (h : FF a b) (k : FF b c) : FF a c := ⟨fun i z => (k.1 i z).trans (h.1 i z), fun i j => (k.2.1 i j).trans (h.2.1 i j), fun i j z => (k.2.2 i j z).trans (h.2.2 i j z)⟩
theorem TR.f {σ σ' : TS} {M : MS} {tp : List Nat} (h : TR σ M) (q : FF σ σ') (hT : TP σ' tp) : TR σ' (mE M, mK M, mS M, tp, mF M) := by
  obtain ⟨a, b, c, h1, h2, h3, h4, h5, h6, h7, h8, h9, h10, h11⟩ := h
  have hx : ∀ k, k ≠ 1 → sx σ' k = sx σ k := q.1
  exact ⟨a, b, c, h1, (hx _ (by omega)).trans h2, (hx _ (by omega)).trans h3, (hx _ (by omega)).trans h4, h5.same (fun x j _ _ _ => q.2.2 x j (by omega)) (fun x j _ _ => q.2.1 x j), h6, h7.same (hx _ (by omega)) (fun E z => z.same (fun x j _ _ _ => q.2.2 x j (by omega)) (fun x j _ _ => q.2.1 x j)), h8.same (hx _ (by omega)) (fun x j _ _ => q.2.2 x j (by omega)), h9.same (hx _ (by omega)) (fun x j _ => q.2.2 x j (by omega)), hT, (hx _ (by omega)).trans h11⟩
theorem TP.snoc {σ σ' : TS} {bs : List Nat} {b : Nat} (h : TP σ bs) (hl : bs.length < 936) (hb : b < 256) (h1 : sx σ' 1 = nI (bs.length + 1)) (h2 : ∀ j, j ≠ bs.length → sf σ' 0 j = sf σ 0 j) (h3 : sf σ' 0 bs.length = nI b) : TP σ' (bs ++ [b]) := by
  refine ⟨by rw [List.length_append]; exact h1, by rw [List.length_append, List.length_singleton]; omega, fun x hx => ?_, fun j hj => ?_⟩
  · rcases List.mem_append.mp hx with z | z
    · exact h.2.2.1 x z
    · rw [List.mem_singleton.mp z]; exact hb
  · rw [List.length_append, List.length_singleton] at hj
    by_cases e : j = bs.length
    · subst e
      rw [List.getElem_append_right (Nat.le_refl _)]
      simp only [Nat.sub_self, List.getElem_cons_zero]
      exact h3
    · rw [List.getElem_append_left (by omega), h2 j e]
      exact h.2.2.2 j (by omega)
theorem tsp_eight {σ : TS} {bs : List Nat} {v : Int64} {post : TS → Prop} (h : TP σ bs) (hl : bs.length + 8 ≤ 936) (hp : ∀ σ', TP σ' (bs ++ by8 v) → FF σ σ' → post σ') : wp_eight post σ v := by
  refine ⟨fun n z x => ∃ i, i ≤ 8 ∧ x = nI 56 - nI (8 * i) ∧ n = 8 - i ∧ TP z (bs ++ ((List.range i).map (fun i => (b8 v i).toNatClampNeg))) ∧ FF σ z, ⟨_, 0, by omega, by decide, rfl, by rw [List.range_zero, List.map_nil, List.append_nil]; exact h, FF.rf σ⟩, ?_⟩
  rintro n z x ⟨i, hi, rfl, rfl, hT, hF⟩
  have hlen : (bs ++ ((List.range i).map (fun i => (b8 v i).toNatClampNeg))).length = bs.length + i := by rw [List.length_append, List.length_map, List.length_range]
  refine ⟨fun hneg => ?_, fun hpos => ?_⟩
  · have hi8 : i = 8 := by
      rcases Nat.lt_or_ge i 8 with z1 | z1
      · exact absurd hneg (e8 i z1).2
      · omega
    subst hi8
    exact hp z hT hF
  · have hi8 : i < 8 := by
      rcases Nat.lt_or_ge i 8 with z1 | z1
      · exact z1
      · rw [show i = 8 by omega] at hpos; exact absurd (by decide) hpos
    have s1 := hT.1
    rw [hlen] at s1
    rw [s1, nI_clamp (show bs.length + i < 2 ^ 31 by omega)]
    refine ⟨vp_inN (by omega) (by omega), fun z9 hz9 z10 hz10 => ⟨8 - (i + 1), by omega, i + 1, by omega, (e8 i hi8).1, rfl, ?_, ?_⟩⟩
    · rw [List.range_succ, List.map_append, ← List.append_assoc]
      refine hT.snoc (by rw [hlen]; omega) (b8_lt v i).1 ?_ (fun j hj => ?_) ?_
      · rw [hz10, sx_ux, if_pos rfl, hz9, sx_uf, s1, nI_add, hlen]
      · rw [hz10, sf_ux, hz9, sf_uf, if_neg (by rw [hlen] at hj; omega)]
      · rw [hz10, sf_ux, hz9, sf_uf, hlen, if_pos ⟨rfl, rfl⟩]
        exact (b8_lt v i).2
    · refine hF.tr ⟨fun k hk => ?_, fun a j => ?_, fun a j ha => ?_⟩
      · rw [hz10, sx_ux, if_neg hk, hz9, sx_uf]
      · rw [hz10, sg_ux, hz9, sg_uf]
      · rw [hz10, sf_ux, hz9, sf_uf, if_neg (by omega)]
theorem TR.tp {σ : TS} {M : MS} (h : TR σ M) : TP σ (mT M) := by
  obtain ⟨a, b, c, h1, h2, h3, h4, h5, h6, h7, h8, h9, h10, h11⟩ := h
  exact h10
theorem tc_feed {σ : TS} {M : MS} {a b c : Int64} {post : Int32 → TS → Prop} (h : TR σ M) (hp : ∀ σ', TR σ' (mE M, mK M, mS M, (aFeed (mT M) a b c).2, mF M) → post (aFeed (mT M) a b c).1 σ') : wp_feed post σ a b c := by
  intro z1 hz1
  have h' : TR z1 M := by rw [hz1]; exact h.t
  have hT := h'.tp
  have hl := hT.2.1
  rw [hT.1, nI_add]
  refine ⟨fun hle => ?_, fun hle => ?_⟩
  · have hl2 : (mT M).length + 24 ≤ 936 := (nI_leI (by omega) (by omega)).mp hle
    rw [aFeed, if_pos hl2] at hp
    refine tsp_eight hT (by omega) (fun z3 t3 f3 => tsp_eight t3 (by rw [List.length_append, by8_len]; omega) (fun z4 t4 f4 => tsp_eight t4 (by rw [List.length_append, List.length_append, by8_len, by8_len]; omega) (fun z5 t5 f5 => ?_)))
    have := hp z5 (h'.f (f3.tr (f4.tr f5)) t5)
    rw [t5.1, List.length_append, List.length_append, List.length_append, by8_len, by8_len, by8_len]
    exact this
  · have hl2 : ¬ (mT M).length + 24 ≤ 936 := fun z => hle (nI_le z (by omega))
    rw [aFeed, if_neg hl2] at hp
    exact hp z1 h'
theorem tc_end {σ : TS} {M : MS} {n : Int32} {post : Int32 → TS → Prop} (h : TR σ M) (hp : ∀ σ', TR σ' (mE M, mK M, mS M, (aEnd (mT M) n).2, mF M) → post (aEnd (mT M) n).1 σ') : wp_end post σ n := by
  intro z1 hz1
  have h' : TR z1 M := by rw [hz1]; exact h.t
  have hT := h'.tp
  have hl := hT.2.1
  rw [hT.1]
  refine tsp_within ⟨fun hb z5 hz5 => ?_, fun hb => ?_⟩
  · rw [aEnd, hb] at hp
    simp only [if_true] at hp
    have hb' := wthn_iff.mp hb
    rw [nI_toInt (by omega), nI_toInt (by omega)] at hb'
    have hn0 : ¬ n < 0 := fun z => by
      have h1 := Int32.lt_iff_toInt_lt.mp z
      have h0 : (0 : Int32).toInt = 0 := by decide
      rw [h0] at h1
      have : ((0 : Nat) : Int) = 0 := rfl
      omega
    obtain ⟨j, hj, rfl⟩ := nI_of hn0
    rw [nI_toInt hj] at hb'
    have hjl : j ≤ (mT M).length := by omega
    rw [ix, nI_clamp hj] at hp
    refine hp z5 (h'.f ⟨fun k hk => ?_, fun a j => ?_, fun a j _ => ?_⟩ ⟨?_, ?_, fun b hb2 => hT.2.2.1 b (List.mem_of_mem_take hb2), fun i hi => ?_⟩)
    · rw [hz5, sx_ux, if_neg hk]
    · rw [hz5, sg_ux]
    · rw [hz5, sf_ux]
    · rw [hz5, sx_ux, if_pos rfl, List.length_take, Nat.min_eq_left hjl]
    · rw [List.length_take]; omega
    · rw [List.length_take] at hi
      rw [hz5, sf_ux, List.getElem_take]
      exact hT.2.2.2 i (by omega)
  · rw [aEnd, hb] at hp
    exact hp z1 h'
