/-! What is tried reaches what can be reached -/
set_option maxRecDepth 100000
def tAt (k : Cn) : Int32 := if k.2.1 = 0 then k.2.2.1 else k.2.2.1 + nI 1
def tIn (w : Nat) (lo hi : Int32) (k : Cn) : Bool := decide (k.1 = w) && wthn (tAt k) lo hi
/-- the numbers at which some comparison turns, and the least -/
def tns (w : Nat) (lo hi : Int32) (A : List Cn) : List Int32 := lo :: (A.filter (tIn w lo hi)).map tAt
theorem ex_max (v : Int) : ∀ (L : List Int32), (∃ t ∈ L, t.toInt ≤ v) → ∃ t ∈ L, t.toInt ≤ v ∧ ∀ u ∈ L, u.toInt ≤ v → u.toInt ≤ t.toInt := by
  intro L
  induction L with
  | nil => rintro ⟨t, ht, -⟩; cases ht
  | cons a L ih =>
    intro h
    by_cases h2 : ∃ t ∈ L, t.toInt ≤ v
    · obtain ⟨t, t1, t2, t3⟩ := ih h2
      by_cases ha : a.toInt ≤ v ∧ t.toInt < a.toInt
      · refine ⟨a, List.mem_cons_self .., ha.1, fun u hu hv => ?_⟩
        rcases List.mem_cons.mp hu with rfl | hu
        · exact Int.le_refl _
        · have := t3 u hu hv
          omega
      · refine ⟨t, List.mem_cons_of_mem _ t1, t2, fun u hu hv => ?_⟩
        rcases List.mem_cons.mp hu with rfl | hu
        · omega
        · exact t3 u hu hv
    · obtain ⟨t, t1, t2⟩ := h
      rcases List.mem_cons.mp t1 with rfl | t1
      · refine ⟨t, List.mem_cons_self .., t2, fun u hu hv => ?_⟩
        rcases List.mem_cons.mp hu with rfl | hu
        · exact Int.le_refl _
        · exact absurd ⟨u, hu, hv⟩ h2
      · exact absurd ⟨t, t1, t2⟩ h2
theorem cmp_0 {v n : Int32} : cmpM 0 v n = decide (v.toInt < n.toInt) := by
  unfold cmpM
  rw [if_pos rfl]
  exact decide_eq_decide.mpr Int32.lt_iff_toInt_lt
theorem cmp_1 {v n : Int32} : cmpM (nI 1) v n = decide (n.toInt < v.toInt) := by
  unfold cmpM
  rw [if_neg (by decide)]
  exact decide_eq_decide.mpr Int32.lt_iff_toInt_lt
theorem add1 {n : Int32} (h : n.toInt < 1000) : (n + nI 1).toInt = n.toInt + 1 := by
  have h1 := Int32.le_toInt n
  rw [Int32.toInt_add]
  have e1 : (nI 1).toInt = 1 := by decide
  rw [e1]
  have e2 : (2 : Int) ^ 31 = 2147483648 := by decide
  rw [Int.bmod_eq_of_le (by omega) (by omega)]
/-- a number may be had from the turns instead -/
theorem turn_ok {w lo hi v : Nat} {A : List Cn} (hlo : lo ≤ v) (hhi : v ≤ hi) (hh : hi < 1000) : ∃ t ∈ tns w (nI lo) (nI hi) A, ∀ k ∈ A, k.1 = w → (k.2.1 = 0 ∨ k.2.1 = nI 1) → cmpM k.2.1 t k.2.2.1 = cmpM k.2.1 (nI v) k.2.2.1 := by
  have ev : (nI v).toInt = v := nI_toInt (by omega)
  have el : (nI lo).toInt = lo := nI_toInt (by omega)
  have eh : (nI hi).toInt = hi := nI_toInt (by omega)
  obtain ⟨t, t1, t2, t3⟩ := ex_max v (tns w (nI lo) (nI hi) A) ⟨nI lo, List.mem_cons_self .., by rw [el]; omega⟩
  have tlo : (lo : Int) ≤ t.toInt := by
    have := t3 (nI lo) (List.mem_cons_self ..) (by rw [el]; omega)
    rw [el] at this
    exact this
  refine ⟨t, t1, fun k hk hw h01 => ?_⟩
  have mem : (lo : Int) ≤ (tAt k).toInt → (tAt k).toInt ≤ v → (tAt k).toInt ≤ t.toInt := fun z1 z2 => by
    refine t3 (tAt k) (List.mem_cons_of_mem _ (List.mem_map.mpr ⟨k, List.mem_filter.mpr ⟨hk, ?_⟩, rfl⟩)) z2
    unfold tIn
    rw [decide_eq_true hw, Bool.true_and]
    exact wthn_iff.mpr ⟨by rw [el]; exact z1, by rw [eh]; omega⟩
  rcases h01 with h0 | h1
  · rw [h0, cmp_0, cmp_0, ev]
    refine decide_eq_decide.mpr ⟨fun z => ?_, fun z => by omega⟩
    rcases Int.lt_or_le v k.2.2.1.toInt with y1 | y1
    · exact y1
    · exfalso
      have e1 : tAt k = k.2.2.1 := by unfold tAt; rw [if_pos h0]
      have := mem (by rw [e1]; omega) (by rw [e1]; exact y1)
      rw [e1] at this
      omega
  · rw [h1, cmp_1, cmp_1, ev]
    refine decide_eq_decide.mpr ⟨fun z => by omega, fun z => ?_⟩
    have e1 : (tAt k).toInt = k.2.2.1.toInt + 1 := by
      unfold tAt
      rw [if_neg (by rw [h1]; decide)]
      exact add1 (by omega)
    rcases Int.lt_or_le k.2.2.1.toInt t.toInt with y1 | y1
    · exact y1
    · exfalso
      have := mem (by rw [e1]; omega) (by rw [e1]; omega)
      rw [e1] at this
      omega
theorem tns_in {w lo hi : Nat} {A : List Cn} {t : Int32} (hl : lo ≤ hi) (hh : hi < 1000) (h : t ∈ tns w (nI lo) (nI hi) A) : ∃ v, t = nI v ∧ lo ≤ v ∧ v ≤ hi := by
  have el : (nI lo).toInt = lo := nI_toInt (by omega)
  have eh : (nI hi).toInt = hi := nI_toInt (by omega)
  have key : (lo : Int) ≤ t.toInt ∧ t.toInt ≤ hi := by
    rcases List.mem_cons.mp h with rfl | h
    · rw [el]; omega
    · obtain ⟨k, hk, rfl⟩ := List.mem_map.mp h
      have := (List.mem_filter.mp hk).2
      unfold tIn at this
      rw [Bool.and_eq_true] at this
      have := wthn_iff.mp this.2
      rw [el, eh] at this
      exact this
  refine ⟨t.toInt.toNat, ?_, by omega, by omega⟩
  apply Int32.toInt_inj.mp
  rw [nI_toInt (by omega)]
  omega
theorem bit_mod : ∀ c, c ≤ 6 → ∀ an, an < 64 → ∀ u, u < c → decide (((nI (an % 2 ^ c) >>> (nI u &&& 31)) &&& nI 1) = nI 1) = decide (((nI an >>> (nI u &&& 31)) &&& nI 1) = nI 1) := by decide +kernel
/-- what the tree's conditions answer -/
theorem vl_trk {F F' : Cn → Bool} {cs : List Cn} {b t : Nat} (ho : cOk cs) (hc : ∀ (i : Nat) (k : Cn), b ≤ i → i < t → cs[i]? = some k → (k.1 ≤ 1 → b ≤ ix k.2.1 ∧ b ≤ ix k.2.2.1) ∧ (k.1 = 2 → b ≤ ix k.2.1)) (hF : ∀ (i : Nat) (k : Cn), b ≤ i → i < t → cs[i]? = some k → 3 ≤ k.1 → F k = F' k) (ht : t ≤ cs.length) : ∀ i, b ≤ i → i < t → vl F cs i = vl F' cs i := by
  intro i
  induction i using Nat.strongRecOn with
  | _ i ih =>
    intro hb hl
    have hk : cs[i]? = some cs[i] := List.getElem?_eq_getElem (by omega)
    obtain ⟨o1, o2⟩ := ho i _ hk
    obtain ⟨c1, c2⟩ := hc i _ hb hl hk
    by_cases k0 : cs[i].1 = 0
    · have h1 := o1 (by omega)
      have h2 := c1 (by omega)
      rw [vl_or ho hk k0, vl_or ho hk k0, ih _ h1.1 h2.1 (by omega), ih _ h1.2 h2.2 (by omega)]
    · by_cases k1 : cs[i].1 = 1
      · have h1 := o1 (by omega)
        have h2 := c1 (by omega)
        rw [vl_and ho hk k1, vl_and ho hk k1, ih _ h1.1 h2.1 (by omega), ih _ h1.2 h2.2 (by omega)]
      · by_cases k2 : cs[i].1 = 2
        · have h1 := o2 k2
          have h2 := c2 k2
          rw [vl_not ho hk k2, vl_not ho hk k2, ih _ h1 h2 (by omega)]
        · rw [vl_atom hk (by omega), vl_atom hk (by omega), hF i _ hb hl hk (by omega)]
theorem gn_trk {F F' : Cn → Bool} {E : Ed} {ct : Nat → Nat} {c : Nat} {A : List Cn} (ho : cOk (eCn E)) (hE : EdCt E ct) (ht : trk E A c) (hF : ∀ (k : Cn), 3 ≤ k.1 → (atF k.1 A)[k.2.2.2]? = some k → F k = F' k) : ∀ (f n : Nat), (∀ x : Nd, (eNd E)[n]? = some x → x.2.2.2.2 = c) → gn F (eNd E) (eCn E) f n = gn F' (eNd E) (eCn E) f n := by
  obtain ⟨-, b, t, t1, t2, t3⟩ := ht
  have hv := vl_trk (F := F) (F' := F') ho (fun i k hb hl hk => ⟨(t3 i k hb hl hk).1, (t3 i k hb hl hk).2.1⟩) (fun i k hb hl hk h3 => hF k h3 ((t3 i k hb hl hk).2.2 h3)) t1
  intro f
  induction f with
  | zero => intro n _; rfl
  | succ f ih =>
    intro n hx
    cases e : (eNd E)[n]? with
    | none => simp only [gn, e]
    | some x =>
      by_cases h : x.1 < 0
      · obtain ⟨h1, h2, h3⟩ := hE.1 n x e h
        have hxc := hx x e
        obtain ⟨b1, b2⟩ := t2 n x e hxc h
        rw [gn_step e h, gn_step e h, hv x.2.1 b1 b2]
        cases vl F' (eCn E) x.2.1 with
        | true =>
          simp only [if_true]
          rw [ih x.2.2.1 (fun y hy => (h2 y hy).trans hxc)]
        | false =>
          simp only [Bool.false_eq_true, if_false]
          rw [ih x.2.2.2.1 (fun y hy => (h3 y hy).trans hxc)]
      · rw [gn_leaf e h, gn_leaf e h]
/-- the signs of the comparisons -/
def sgOk (A : List Cn) : Prop := ∀ k ∈ A, 3 ≤ k.1 ∧ k.1 ≤ 9 ∧ (6 ≤ k.1 → k.2.1 = 0 ∨ k.2.1 = nI 1)
/-- what the chapter c is tried with leads to all that can be reached -/
theorem tried_all {E : Ed} {ct : Nat → Nat} {c : Nat} {A : List Cn} {an age day lv tp : Nat} (ho : cOk (eCn E)) (hE : EdCt E ct) (ht : trk E A c) (hs : sgOk A) (hc : c < (eCh E).length) (h1 : an < 64) (h2 : age ≤ 120) (h3 : 1 ≤ day) (h4 : day ≤ 400) : ∃ an' t1 t2, an' < 2 ^ (atF 0 A).length ∧ t1 ∈ tns 6 (nI 0) (nI 120) A ∧ t2 ∈ tns 7 (nI 1) (nI 400) A ∧ gn (evB (nI an') t1 t2 (nI lv) (nI tp)) (eNd E) (eCn E) 40 (ix (eCh E)[c].2.2) = gn (evB (nI an) (nI age) (nI day) (nI lv) (nI tp)) (eNd E) (eCn E) 40 (ix (eCh E)[c].2.2) := by
  obtain ⟨t1, a1, a2⟩ := turn_ok (w := 6) (lo := 0) (hi := 120) (v := age) (A := A) (Nat.zero_le _) h2 (by omega)
  obtain ⟨t2, b1, b2⟩ := turn_ok (w := 7) (lo := 1) (hi := 400) (v := day) (A := A) h3 h4 (by omega)
  have hl6 := ht.1.1 0
  refine ⟨an % 2 ^ (atF 0 A).length, t1, t2, Nat.mod_lt _ (Nat.two_pow_pos _), a1, b1, gn_trk ho hE ht (fun k h3 hk => ?_) 40 _ (fun x hx => hE.2.2.2.2 c hc x hx)⟩
  have hlt : k.2.2.2 < (atF k.1 A).length := (List.getElem?_eq_some_iff.mp hk).1
  have hmem : k ∈ A := (List.mem_filter.mp (List.mem_of_getElem? hk)).1
  obtain ⟨s1, s2, s3⟩ := hs k hmem
  unfold evB
  by_cases h6 : k.1 < 6
  · rw [if_pos h6, if_pos h6]
    have e1 : atF k.1 A = atF 0 A := by
      unfold atF
      rw [decide_eq_true h6]
      rfl
    rw [e1] at hlt
    exact bit_mod _ hl6 an h1 _ hlt
  · rw [if_neg h6, if_neg h6]
    by_cases e6 : k.1 = 6
    · rw [if_pos e6, if_pos e6]
      exact a2 k hmem e6 (s3 (by omega))
    · rw [if_neg e6, if_neg e6]
      by_cases e7 : k.1 = 7
      · rw [if_pos e7, if_pos e7]
        exact b2 k hmem e7 (s3 (by omega))
      · rw [if_neg e7, if_neg e7]
