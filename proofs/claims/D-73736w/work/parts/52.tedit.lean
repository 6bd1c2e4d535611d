/-! The model's side: an edition in its rows -/
set_option maxRecDepth 100000
abbrev Cl : Type := List Nat × Int32
/-- an edition: chapters, ranks, partners, classes, nodes, conditions -/
abbrev Ed : Type := List Ch × List Rk × List Pt9 × List Cl × List Nd × List Cn
abbrev eCh (E : Ed) : List Ch := E.1
abbrev eRk (E : Ed) : List Rk := E.2.1
abbrev ePt (E : Ed) : List Pt9 := E.2.2.1
abbrev eCl (E : Ed) : List Cl := E.2.2.2.1
abbrev eNd (E : Ed) : List Nd := E.2.2.2.2.1
abbrev eCn (E : Ed) : List Cn := E.2.2.2.2.2
def pk (bs : List Nat) : Int64 := bs.foldl (fun v c => 256 * v + Int64.ofNat c) 0
def spsT (σ : TS) (k1 k2 b : Nat) (sps : List Sp) : Prop := ∀ j (h : j < sps.length), sf σ k1 (b + j) = sps[j].1 ∧ sf σ k2 (b + j) = sps[j].2
def chT (σ : TS) (d : Nat) (cs : List Ch) : Prop := sf σ 3 (7 * d) = nI cs.length ∧ cs.length ≤ 6 ∧ ∀ k (h : k < cs.length), sg σ 4 (6 * d + k) = pk cs[k].1 ∧ sf σ 5 (6 * d + k) = nI cs[k].2.1.length ∧ cs[k].2.1.length ≤ 3 ∧ spsT σ 6 7 (3 * (6 * d + k)) cs[k].2.1 ∧ sf σ 8 (6 * d + k) = cs[k].2.2
def rkT (σ : TS) (d : Nat) (rs : List Rk) : Prop := sf σ 3 (7 * d + 1) = nI rs.length ∧ rs.length ≤ 10 ∧ ∀ k (h : k < rs.length), sf σ 9 (10 * d + k) = rs[k].1.1 ∧ sf σ 10 (10 * d + k) = rs[k].1.2 ∧ sf σ 11 (10 * d + k) = rs[k].2
def ptT (σ : TS) (d : Nat) (ps : List Pt9) : Prop := sf σ 3 (7 * d + 2) = nI ps.length ∧ ps.length ≤ 10 ∧ ∀ k (h : k < ps.length), sf σ 12 (10 * d + k) = ps[k].1.1 ∧ sf σ 13 (10 * d + k) = ps[k].1.2 ∧ sf σ 14 (10 * d + k) = ps[k].2.1 ∧ sf σ 15 (10 * d + k) = nI ps[k].2.2.length ∧ ps[k].2.2.length ≤ 3 ∧ spsT σ 16 17 (3 * (10 * d + k)) ps[k].2.2
def clT (σ : TS) (d : Nat) (cs : List Cl) : Prop := sf σ 3 (7 * d + 3) = nI cs.length ∧ cs.length ≤ 16 ∧ ∀ k (h : k < cs.length), sg σ 18 (16 * d + k) = pk cs[k].1 ∧ sf σ 19 (16 * d + k) = cs[k].2
def ndT (σ : TS) (d : Nat) (ns : List Nd) : Prop := sf σ 3 (7 * d + 4) = nI ns.length ∧ ns.length ≤ 40 ∧ ∀ k (h : k < ns.length), sf σ 20 (40 * d + k) = ns[k].1 ∧ sf σ 24 (40 * d + k) = nI ns[k].2.2.2.2 ∧ (ns[k].2.2.1 ≠ 0 → sf σ 21 (40 * d + k) = nI ns[k].2.1 ∧ sf σ 22 (40 * d + k) = nI ns[k].2.2.1 ∧ sf σ 23 (40 * d + k) = nI ns[k].2.2.2.1)
def cnT (σ : TS) (d : Nat) (cs : List Cn) : Prop := sf σ 3 (7 * d + 5) = nI cs.length ∧ cs.length ≤ 400 ∧ ∀ k (h : k < cs.length), sf σ 25 (400 * d + k) = nI cs[k].1 ∧ sf σ 26 (400 * d + k) = cs[k].2.1 ∧ sf σ 27 (400 * d + k) = cs[k].2.2.1 ∧ (3 ≤ cs[k].1 → sf σ 28 (400 * d + k) = nI cs[k].2.2.2)
/-- the edition E lies at the side d -/
def RepT (σ : TS) (d : Nat) (E : Ed) : Prop := d < 3 ∧ chT σ d (eCh E) ∧ rkT σ d (eRk E) ∧ ptT σ d (ePt E) ∧ clT σ d (eCl E) ∧ ndT σ d (eNd E) ∧ cnT σ d (eCn E)
/-- a row of conditions in order -/
def cOk2 (cs : List Cn) : Prop := ∀ (i : Nat) (k : Cn), cs[i]? = some k → k.1 ≤ 9 ∧ (k.1 ≤ 1 → ∃ a b, k.2.1 = nI a ∧ a < i ∧ k.2.2.1 = nI b ∧ b < i) ∧ (k.1 = 2 → ∃ a, k.2.1 = nI a ∧ a < i) ∧ (3 ≤ k.1 → k.2.2.2 < 6)
theorem cOk2.ok {cs : List Cn} (h : cOk2 cs) (hl : cs.length ≤ 400) : cOk cs := by
  intro i k hk
  have hi : i < cs.length := by
    rcases Nat.lt_or_ge i cs.length with z | z
    · exact z
    · rw [List.getElem?_eq_none z] at hk; cases hk
  obtain ⟨-, h2, h3, -⟩ := h i k hk
  refine ⟨fun z => ?_, fun z => ?_⟩
  · obtain ⟨a, b, e1, l1, e2, l2⟩ := h2 z
    rw [e1, e2, ix, ix, nI_clamp (by omega), nI_clamp (by omega)]
    exact ⟨l1, l2⟩
  · obtain ⟨a, e1, l1⟩ := h3 z
    rw [e1, ix, nI_clamp (by omega)]
    exact l1
/-- nodes in order: parents ahead of children -/
def nOk (E : Ed) : Prop := ∀ (n : Nat) (x : Nd), (eNd E)[n]? = some x → (x.1 < 0 → n < x.2.2.1 ∧ x.2.2.1 < (eNd E).length ∧ n < x.2.2.2.1 ∧ x.2.2.2.1 < (eNd E).length ∧ x.2.1 < (eCn E).length) ∧ (¬ x.1 < 0 → ∃ k, k < (eCl E).length ∧ x.1 = nI k) ∧ x.2.2.2.2 < (eCh E).length
def EdOk (E : Ed) : Prop := cOk2 (eCn E) ∧ nOk E ∧ (∀ c ∈ eCh E, ∃ r, c.2.2 = nI r ∧ r < (eNd E).length) ∧ ∀ c ∈ eCl E, 1 ≤ c.1.length ∧ c.1.length ≤ 8 ∧ ∀ b ∈ c.1, 97 ≤ b ∧ b ≤ 122
theorem tsp_chapters {σ : TS} {d : Nat} {v : Int32} {post : Int32 → TS → Prop} (hd : d < 3) (h : sf σ 3 (7 * d) = v) (hp : post v σ) : wp_chapters post σ (nI d) := by
  unfold wp_chapters
  rw [nI_mul, nI_clamp (by omega), h]
  exact ⟨vp_inN (by omega) (by omega), hp⟩
theorem tsp_ranks {σ : TS} {d : Nat} {v : Int32} {post : Int32 → TS → Prop} (hd : d < 3) (h : sf σ 3 (7 * d + 1) = v) (hp : post v σ) : wp_ranks post σ (nI d) := by
  unfold wp_ranks
  rw [nI_mul, nI_add, nI_clamp (by omega), h]
  exact ⟨vp_inN (by omega) (by omega), hp⟩
theorem tsp_partners {σ : TS} {d : Nat} {v : Int32} {post : Int32 → TS → Prop} (hd : d < 3) (h : sf σ 3 (7 * d + 2) = v) (hp : post v σ) : wp_partners post σ (nI d) := by
  unfold wp_partners
  rw [nI_mul, nI_add, nI_clamp (by omega), h]
  exact ⟨vp_inN (by omega) (by omega), hp⟩
theorem tsp_classes {σ : TS} {d : Nat} {v : Int32} {post : Int32 → TS → Prop} (hd : d < 3) (h : sf σ 3 (7 * d + 3) = v) (hp : post v σ) : wp_classes post σ (nI d) := by
  unfold wp_classes
  rw [nI_mul, nI_add, nI_clamp (by omega), h]
  exact ⟨vp_inN (by omega) (by omega), hp⟩
theorem tsp_nodes {σ : TS} {d : Nat} {v : Int32} {post : Int32 → TS → Prop} (hd : d < 3) (h : sf σ 3 (7 * d + 4) = v) (hp : post v σ) : wp_nodes post σ (nI d) := by
  unfold wp_nodes
  rw [nI_mul, nI_add, nI_clamp (by omega), h]
  exact ⟨vp_inN (by omega) (by omega), hp⟩
theorem tsp_chapterFor {σ : TS} {d k : Nat} {cs : List Ch} {m : Int32} {post : Int32 → TS → Prop} (hd : d < 3) (hk : k < 24) (hR : chT σ d cs) (hm : sf σ 35 k = m) (hp : post (chapterFor cs m) σ) : wp_chapterFor post σ (nI d) (nI k) := by
  obtain ⟨hl, hl6, hc⟩ := hR
  refine ⟨fun n z x => z = σ ∧ ∃ c, x = nI c ∧ c ≤ cs.length ∧ n = cs.length - c ∧ ∀ j (hj : j < cs.length), j < c → anyS cs[j].2.1 m = false, ⟨_, rfl, 0, rfl, Nat.zero_le _, rfl, fun j _ h => absurd h (Nat.not_lt_zero _)⟩, ?_⟩
  rintro n z x ⟨rfl, c, rfl, hcl, rfl, hno⟩
  refine tsp_chapters hd hl ⟨fun hge => ?_, fun hlt => ?_⟩
  · have hcl2 := nle_of (by omega) hcl hge
    have h3 := findIdx_no (xs := cs) (p := fun c => anyS c.2.1 m) (fun j hj => hno j hj (by omega))
    rw [chapterFor, fst9, if_neg h3] at hp
    exact hp
  · have hc2 := nlt_of (by omega) hcl hlt
    obtain ⟨q1, q2, q3, q4, q5⟩ := hc c hc2
    intro x11 hx11
    rw [nI_mul, nI_add] at hx11
    subst hx11
    refine ⟨fun n z2 x => z2 = z ∧ ∃ i, x = nI i ∧ i ≤ cs[c].2.1.length ∧ n = cs[c].2.1.length - i ∧ ∀ j (hj : j < cs[c].2.1.length), j < i → has cs[c].2.1[j] m = false, ⟨_, rfl, 0, rfl, Nat.zero_le _, rfl, fun j _ h => absurd h (Nat.not_lt_zero _)⟩, ?_⟩
    rintro n z2 x ⟨rfl, i, rfl, hil, rfl, hno2⟩
    rw [nI_mul 3 (6 * d + c), nI_add (3 * (6 * d + c)) i, nI_clamp (show 6 * d + c < 2 ^ 31 by omega), nI_clamp (show 3 * (6 * d + c) + i < 2 ^ 31 by omega), nI_clamp (show k < 2 ^ 31 by omega), q2, hm]
    refine ⟨vp_inN (by omega) (by omega), fun hge2 => ⟨cs.length - (c + 1), by omega, rfl, c + 1, by rw [nI_add], by omega, rfl, fun j hj hjc => ?_⟩, fun hlt2 => ?_⟩
    · by_cases e : j = c
      · subst e
        have := nle_of (by omega) hil hge2
        exact any_no (fun i2 h2 => hno2 i2 h2 (by omega))
      · exact hno j hj (by omega)
    · have hi2 := nlt_of (by omega) hil hlt2
      obtain ⟨w1, w2⟩ := q4 i hi2
      refine ⟨vp_inN (by omega) (by omega), vp_inN (by omega) (by omega), vp_inN (by omega) (by omega), ?_⟩
      rw [w1, w2]
      refine tsp_within ⟨fun hb => ⟨cs[c].2.1.length - (i + 1), by omega, rfl, i + 1, by rw [nI_add], by omega, rfl, fun j hj hji => ?_⟩, fun hb => ?_⟩
      · by_cases e : j = i
        · subst e; exact hb
        · exact hno2 j hj (by omega)
      · have h3 := findIdx_at (xs := cs) (p := fun c => anyS c.2.1 m) (k := c) hc2 hno (any_yes hi2 hb)
        rw [chapterFor, fst9, if_pos (by omega), h3] at hp
        exact hp
theorem tsp_partnerFor {σ : TS} {d : Nat} {ps : List Pt9} {c : Int32} {post : Int32 → TS → Prop} (hd : d < 3) (hR : ptT σ d ps) (hp : post (partnerFor ps c) σ) : wp_partnerFor post σ (nI d) c := by
  obtain ⟨hl, hl6, hc⟩ := hR
  refine ⟨fun n z x => z = σ ∧ ∃ k, x = nI k ∧ k ≤ ps.length ∧ n = ps.length - k ∧ ∀ j (hj : j < ps.length), j < k → has ps[j].1 c = false, ⟨_, rfl, 0, rfl, Nat.zero_le _, rfl, fun j _ h => absurd h (Nat.not_lt_zero _)⟩, ?_⟩
  rintro n z x ⟨rfl, k, rfl, hkl, rfl, hno⟩
  refine tsp_partners hd hl ⟨fun hge => ?_, fun hlt => ?_⟩
  · have hkl2 := nle_of (by omega) hkl hge
    have h3 := findIdx_no (xs := ps) (p := fun p => has p.1 c) (fun j hj => hno j hj (by omega))
    rw [partnerFor, fst9, if_neg h3] at hp
    exact hp
  · have hk2 := nlt_of (by omega) hkl hlt
    obtain ⟨q1, q2, -⟩ := hc k hk2
    rw [nI_mul 10 d, nI_add (10 * d) k, nI_clamp (show 10 * d + k < 2 ^ 31 by omega), q1, q2]
    refine ⟨vp_inN (by omega) (by omega), vp_inN (by omega) (by omega), tsp_within ⟨fun hb => ⟨ps.length - (k + 1), by omega, rfl, k + 1, by rw [nI_add], by omega, rfl, fun j hj hji => ?_⟩, fun hb => ?_⟩⟩
    · by_cases e : j = k
      · subst e; exact hb
      · exact hno j hj (by omega)
    · have h3 := findIdx_at (xs := ps) (p := fun p => has p.1 c) (k := k) hk2 hno hb
      rw [partnerFor, fst9, if_pos (by omega), h3] at hp
      exact hp
theorem tsp_isBut {σ : TS} {d k : Nat} {ps : List Pt9} {c : Int32} {post : Bool → TS → Prop} (hd : d < 3) (hR : ptT σ d ps) (hk : k < ps.length) (hp : post (anyS ps[k].2.2 c) σ) : wp_isBut post σ (nI (10 * d + k)) c := by
  obtain ⟨hl, hl6, hc⟩ := hR
  obtain ⟨-, -, -, q4, q5, q6⟩ := hc k hk
  refine ⟨fun n z x => z = σ ∧ ∃ i, x = nI i ∧ i ≤ ps[k].2.2.length ∧ n = ps[k].2.2.length - i ∧ ∀ j (hj : j < ps[k].2.2.length), j < i → has ps[k].2.2[j] c = false, ⟨_, rfl, 0, rfl, Nat.zero_le _, rfl, fun j _ h => absurd h (Nat.not_lt_zero _)⟩, ?_⟩
  rintro n z x ⟨rfl, i, rfl, hil, rfl, hno⟩
  rw [nI_mul 3 (10 * d + k), nI_add (3 * (10 * d + k)) i, nI_clamp (show 10 * d + k < 2 ^ 31 by omega), nI_clamp (show 3 * (10 * d + k) + i < 2 ^ 31 by omega), q4]
  refine ⟨vp_inN (by omega) (by omega), fun hge => ?_, fun hlt => ?_⟩
  · have hkl2 := nle_of (by omega) hil hge
    have := any_no (xs := ps[k].2.2) (p := fun sp => has sp c) (fun j hj => hno j hj (by omega))
    rw [anyS, this] at hp
    exact hp
  · have hi2 := nlt_of (by omega) hil hlt
    obtain ⟨w1, w2⟩ := q6 i hi2
    rw [w1, w2]
    refine ⟨vp_inN (by omega) (by omega), vp_inN (by omega) (by omega), tsp_within ⟨fun hb => ⟨ps[k].2.2.length - (i + 1), by omega, rfl, i + 1, by rw [nI_add], by omega, rfl, fun j hj hji => ?_⟩, fun hb => ?_⟩⟩
    · by_cases e : j = i
      · subst e; exact hb
      · exact hno j hj (by omega)
    · have := any_yes (xs := ps[k].2.2) (p := fun sp => has sp c) hi2 hb
      rw [anyS, this] at hp
      exact hp
theorem tsp_counts {σ : TS} {d k : Nat} {ps : List Pt9} {ss : List St} {c : Int32} {post : Bool → TS → Prop} (hd : d < 3) (hR : ptT σ d ps) (hS : SR σ ss) (hk : k < ss.length) (hp : post (countsP ps ss[k] c) σ) : wp_counts post σ (nI d) (nI k) c := by
  have hn := hS.2.1
  have hl := hR.2.1
  obtain ⟨m1, m2, m3, m4, m5, m6, m7, o1, o2, o3, o4, o5, o6, o7⟩ := hS.2.2 k hk
  have hv : vp_in (nI k) 24 := vp_inN (by omega) (by omega)
  refine tsp_partnerFor hd hR ⟨fun hneg => ?_, fun hpos => ?_⟩
  · by_cases h : ps.findIdx (fun p => has p.1 c) < ps.length
    · rw [partnerFor, fst9, if_pos h] at hneg
      exact absurd hneg (nI_pos (by omega))
    · rw [countsP, dif_neg h] at hp; exact hp
  · by_cases h : ps.findIdx (fun p => has p.1 c) < ps.length
    · rw [countsP, dif_pos h] at hp
      rw [partnerFor, fst9, if_pos h]
      generalize ps.findIdx (fun p => has p.1 c) = i at h hp
      rw [nI_mul 10 d, nI_mul 8 k, nI_add (10 * d) i, nI_clamp (show k < 2 ^ 31 by omega), m1]
      refine ⟨hv, tsp_isBut hd hR h ⟨fun hb => ?_, fun hb => ?_⟩⟩
      · refine ⟨fun n z x => z = σ ∧ ∃ j, x = nI j ∧ j ≤ (sSecs ss[k]).length ∧ n = (sSecs ss[k]).length - j ∧ ((sSecs ss[k]).take j).all (cntF ps[i].2.2 c) = true, ⟨_, rfl, 0, rfl, Nat.zero_le _, rfl, rfl⟩, ?_⟩
        rintro n z x ⟨rfl, j, rfl, hjl, rfl, hall⟩
        rw [nI_add (8 * k) j, nI_clamp (show 8 * k + j < 2 ^ 31 by omega), m4]
        refine ⟨hv, fun hge => ?_, fun hlt => ?_⟩
        · have := nle_of (by omega) hjl hge
          rw [List.take_of_length_le (by omega)] at hall
          rw [countsF, hb, hall] at hp
          exact hp
        · have hj2 := nlt_of (by omega) hjl hlt
          have hsucc := all_succ (xs := sSecs ss[k]) (p := cntF ps[i].2.2 c) hj2
          refine ⟨vp_inN (by omega) (by omega), fun x15 hx => ?_⟩
          rw [m5 j hj2] at hx
          subst hx
          refine ⟨fun he => ⟨(sSecs ss[k]).length - (j + 1), by omega, rfl, j + 1, by rw [nI_add], by omega, rfl, ?_⟩, fun hne => tsp_isBut hd hR h ⟨fun hb2 => ⟨(sSecs ss[k]).length - (j + 1), by omega, rfl, j + 1, by rw [nI_add], by omega, rfl, ?_⟩, fun hb2 => ?_⟩⟩
          · rw [hsucc, hall, cntF, decide_eq_true he]; rfl
          · rw [hsucc, hall, cntF, hb2]; simp
          · have : countsF ps[i].2.2 ss[k] c = false := by
              rw [countsF]
              have : (sSecs ss[k]).all (cntF ps[i].2.2 c) = false := by
                rw [List.all_eq_false]
                refine ⟨_, List.getElem_mem hj2, ?_⟩
                rw [cntF, decide_eq_false hne, hb2]
                decide
              rw [this, Bool.and_false]
            rw [this] at hp
            exact hp
      · have : countsF ps[i].2.2 ss[k] c = false := by rw [countsF, hb]; rfl
        rw [this] at hp
        exact hp
    · rw [partnerFor, fst9, if_neg h] at hpos
      exact absurd (by decide) hpos
theorem mx_le {a b : Int32} (h : b ≤ a) : mx a b = a := by rw [mx, if_neg (Int32.not_lt.mpr h)]
theorem mx_nle {a b : Int32} (h : ¬ b ≤ a) : mx a b = b := by rw [mx, if_pos (Int32.not_le.mp h)]
theorem tsp_levelOf {σ : TS} {d k : Nat} {ps : List Pt9} {ss : List St} {post : Int32 → TS → Prop} (hd : d < 3) (hR : ptT σ d ps) (hS : SR σ ss) (hk : k < ss.length) (hp : post (levelOf ps ss[k] (sSecs ss[k])) σ) : wp_levelOf post σ (nI d) (nI k) := by
  have hn := hS.2.1
  have hl := hR.2.1
  obtain ⟨m1, m2, m3, m4, m5, m6, m7, o1, o2, o3, o4, o5, o6, o7⟩ := hS.2.2 k hk
  have hv : vp_in (nI k) 24 := vp_inN (by omega) (by omega)
  refine ⟨fun n z x6 x7 => z = σ ∧ ∃ j, x7 = nI j ∧ j ≤ (sSecs ss[k]).length ∧ n = (sSecs ss[k]).length - j ∧ x6 = levelOf ps ss[k] ((sSecs ss[k]).take j), ⟨_, rfl, 0, rfl, Nat.zero_le _, rfl, rfl⟩, ?_⟩
  rintro n z x6 x7 ⟨rfl, j, rfl, hjl, rfl, hx6⟩
  rw [nI_mul 8 k, nI_add (8 * k) j, nI_clamp (show k < 2 ^ 31 by omega), nI_clamp (show 8 * k + j < 2 ^ 31 by omega), m4]
  refine ⟨hv, fun hge => ?_, fun hlt => ?_⟩
  · have := nle_of (by omega) hjl hge
    rw [List.take_of_length_le (by omega)] at hx6
    rw [hx6]; exact hp
  · have hj2 := nlt_of (by omega) hjl hlt
    have hsucc := levelOf_succ (ps := ps) (s := ss[k]) (cs := sSecs ss[k]) (k := j) hj2
    refine ⟨vp_inN (by omega) (by omega), fun x10 hx => ?_⟩
    rw [m5 j hj2] at hx
    subst hx
    refine tsp_counts hd hR hS hk ⟨fun hb => tsp_partnerFor hd hR ?_, fun hb => ⟨(sSecs ss[k]).length - (j + 1), by omega, rfl, j + 1, by rw [nI_add], by omega, rfl, ?_⟩⟩
    · by_cases h : ps.findIdx (fun p => has p.1 (sSecs ss[k])[j]) < ps.length
      · rw [countsP, dif_pos h] at hb
        obtain ⟨q1, q2, q3, -⟩ := hR.2.2 _ h
        rw [partnerFor, fst9, if_pos h, nI_mul 10 d, nI_add (10 * d), nI_clamp (by omega), q3]
        refine ⟨vp_inN (by omega) (by omega), fun x16 hx16 => ⟨fun hle => ⟨(sSecs ss[k]).length - (j + 1), by omega, rfl, j + 1, by rw [nI_add], by omega, rfl, ?_⟩, fun hle => ⟨(sSecs ss[k]).length - (j + 1), by omega, rfl, j + 1, by rw [nI_add], by omega, rfl, ?_⟩⟩⟩
        · rw [hsucc, dif_pos h, if_pos hb, ← hx6, ← hx16, mx_le hle]
        · rw [hsucc, dif_pos h, if_pos hb, ← hx6, ← hx16, mx_nle hle]
      · rw [countsP, dif_neg h] at hb; cases hb
    · rw [hsucc, ← hx6]
      by_cases h : ps.findIdx (fun p => has p.1 (sSecs ss[k])[j]) < ps.length
      · rw [countsP, dif_pos h] at hb
        rw [dif_pos h, hb]; rfl
      · rw [dif_neg h]
theorem topOf_succ {rs : List Rk} {cs : List Int32} {k : Nat} (hk : k < cs.length) : topOf rs (cs.take (k + 1)) = mx (topOf rs (cs.take k)) (rankOf rs cs[k]) := by
  unfold topOf
  rw [List.take_succ_eq_append_getElem hk, List.foldl_append]
  rfl
theorem topOf_nn {rs : List Rk} {cs : List Int32} : ¬ topOf rs cs < 0 := by
  have h : ∀ (cs : List Int32) (b : Int32), ¬ b < 0 → ¬ cs.foldl (fun b c => mx b (rankOf rs c)) b < 0 := by
    intro cs
    induction cs with
    | nil => intro b hb; exact hb
    | cons a t ih =>
      intro b hb
      refine ih _ (fun z => ?_)
      have z' : mx b (rankOf rs a) < 0 := z
      by_cases h1 : b < rankOf rs a
      · rw [mx, if_pos h1] at z'
        exact hb (Int32.lt_trans h1 z')
      · rw [mx, if_neg h1] at z'
        exact hb z'
  exact h cs 0 (by decide)
theorem tsp_topOf {σ : TS} {d k : Nat} {rs : List Rk} {ss : List St} {post : Int32 → TS → Prop} (hd : d < 3) (hR : rkT σ d rs) (hS : SR σ ss) (hk : k < ss.length) (hp : post (topOf rs (sProcs ss[k])) σ) : wp_topOf post σ (nI d) (nI k) := by
  have hn := hS.2.1
  obtain ⟨hl, hl10, hr⟩ := hR
  obtain ⟨m1, m2, m3, m4, m5, m6, m7, o1, o2, o3, o4, o5, o6, o7⟩ := hS.2.2 k hk
  have hv : vp_in (nI k) 24 := vp_inN (by omega) (by omega)
  refine ⟨fun n z x6 x7 => z = σ ∧ ∃ j, x7 = nI j ∧ j ≤ (sProcs ss[k]).length ∧ n = (sProcs ss[k]).length - j ∧ x6 = topOf rs ((sProcs ss[k]).take j), ⟨_, rfl, 0, rfl, Nat.zero_le _, rfl, rfl⟩, ?_⟩
  rintro n z x6 x7 ⟨rfl, j, rfl, hjl, rfl, hx6⟩
  rw [nI_mul 6 k, nI_add (6 * k) j, nI_clamp (show k < 2 ^ 31 by omega), nI_clamp (show 6 * k + j < 2 ^ 31 by omega), m6]
  refine ⟨hv, fun hge => ?_, fun hlt => ?_⟩
  · have := nle_of (by omega) hjl hge
    rw [List.take_of_length_le (by omega)] at hx6
    rw [hx6]; exact hp
  · have hj2 := nlt_of (by omega) hjl hlt
    have hsucc := topOf_succ (rs := rs) (cs := sProcs ss[k]) (k := j) hj2
    refine ⟨fun n z2 x => z2 = z ∧ ∃ i, x = nI i ∧ i ≤ rs.length ∧ n = rs.length - i ∧ ∀ a (ha : a < rs.length), a < i → has rs[a].1 (sProcs ss[k])[j] = false, ⟨_, rfl, 0, rfl, Nat.zero_le _, rfl, fun j _ h => absurd h (Nat.not_lt_zero _)⟩, ?_⟩
    rintro n z2 x ⟨rfl, i, rfl, hil, rfl, hno⟩
    refine ⟨fun z3 x20 => z3 = z2 ∧ x20 = nI (rs.findIdx (fun r => has r.1 (sProcs ss[k])[j])), ?_, tsp_ranks hd hl ⟨fun hge => ⟨rfl, ?_⟩, fun hlt2 => ?_⟩⟩
    · rintro z3 x20 ⟨rfl, rfl⟩
      have hle : rs.findIdx (fun r => has r.1 (sProcs ss[k])[j]) ≤ rs.length := List.findIdx_le_length
      refine tsp_ranks hd hl ⟨fun hge => ⟨(sProcs ss[k]).length - (j + 1), by omega, rfl, j + 1, by rw [nI_add], by omega, rfl, ?_⟩, fun hlt2 => ?_⟩
      · have hh := nle_of (by omega) hle hge
        rw [hsucc, ← hx6, rankOf, dif_neg (by omega), mx_le (Int32.not_lt.mp (by rw [hx6]; exact topOf_nn))]
      · have hh := nlt_of (by omega) hle hlt2
        obtain ⟨q1, q2, q3⟩ := hr _ hh
        rw [nI_mul 10 d, nI_add (10 * d), nI_clamp (by omega), q3]
        have hrk : rankOf rs (sProcs ss[k])[j] = rs[rs.findIdx (fun r => has r.1 (sProcs ss[k])[j])].2 := by rw [rankOf, dif_pos hh]
        refine ⟨vp_inN (by omega) (by omega), fun hle2 => ⟨(sProcs ss[k]).length - (j + 1), by omega, rfl, j + 1, by rw [nI_add], by omega, rfl, ?_⟩, fun hle2 => ⟨vp_inN (by omega) (by omega), fun x27 hx27 => ⟨(sProcs ss[k]).length - (j + 1), by omega, rfl, j + 1, by rw [nI_add], by omega, rfl, ?_⟩⟩⟩
        · rw [hsucc, ← hx6, hrk, mx_le hle2]
        · rw [hsucc, ← hx6, hrk, mx_nle hle2]; exact hx27
    · have hh := nle_of (by omega) hil hge
      have h3 := findIdx_no (xs := rs) (p := fun r => has r.1 (sProcs ss[k])[j]) (fun a ha => hno a ha (by omega))
      have hle : rs.findIdx (fun r => has r.1 (sProcs ss[k])[j]) ≤ rs.length := List.findIdx_le_length
      rw [hh, show rs.findIdx (fun r => has r.1 (sProcs ss[k])[j]) = rs.length by omega]
    · have hi2 := nlt_of (by omega) hil hlt2
      obtain ⟨q1, q2, q3⟩ := hr i hi2
      rw [nI_mul 10 d, nI_add (10 * d) i, nI_clamp (show 10 * d + i < 2 ^ 31 by omega), q1, q2, m7 j hj2]
      refine ⟨vp_inN (by omega) (by omega), vp_inN (by omega) (by omega), vp_inN (by omega) (by omega), tsp_within ⟨fun hb => ⟨rfl, ?_⟩, fun hb => ⟨rs.length - (i + 1), by omega, rfl, i + 1, by rw [nI_add], by omega, rfl, fun a ha hai => ?_⟩⟩⟩
      · rw [findIdx_at (xs := rs) (p := fun r => has r.1 (sProcs ss[k])[j]) hi2 hno hb]
      · by_cases e : a = i
        · subst e; exact hb
        · exact hno a ha (by omega)
