/-! Plain laws: the heap's cells, ArrayList -/
set_option maxRecDepth 100000
theorem hput_at (y : HS) (a : Nat) (e : HE) : (hput y a e).1 a = some e := by simp [hput, va_up]
theorem hput_ne {y : HS} {a b : Nat} {e : HE} (h : b ≠ a) : (hput y a e).1 b = y.1 b := by simp [hput, va_up, h]
theorem hput_2 (y : HS) (a : Nat) (e : HE) : (hput y a e).2 = y.2 := rfl
theorem hnew_at (y : HS) (e : HE) : (hnew y e).1 y.2 = some e := by simp [hnew, va_up]
theorem hnew_ne {y : HS} {b : Nat} {e : HE} (h : b ≠ y.2) : (hnew y e).1 b = y.1 b := by simp [hnew, va_up, h]
theorem hnew_2 (y : HS) (e : HE) : (hnew y e).2 = y.2 + 1 := rfl
/-- what is there lies between the start's heap and the next address -/
def WF (G : GP) (y : HS) : Prop := (∀ a e, y.1 a = some e → a < y.2 ∧ (gH G).size ≤ a) ∧ gE G 0 < (gH G).size ∧ (gH G).size ≤ y.2
theorem WF.put {G : GP} {y : HS} {a : Nat} {e0 e : HE} (h : WF G y) (ha : y.1 a = some e0) : WF G (hput y a e) := by
  refine ⟨fun b e1 hb => ?_, h.2⟩
  by_cases hba : b = a
  · subst hba; exact h.1 _ _ ha
  · rw [hput_ne hba] at hb; exact h.1 _ _ hb
theorem WF.new {G : GP} {y : HS} {e : HE} (h : WF G y) : WF G (hnew y e) := by
  refine ⟨fun b e1 hb => ?_, h.2.1, Nat.le_succ_of_le h.2.2⟩
  by_cases hba : b = y.2
  · subst hba; exact ⟨Nat.lt_succ_self _, h.2.2⟩
  · rw [hnew_ne hba] at hb
    exact ⟨Nat.lt_succ_of_lt (h.1 _ _ hb).1, (h.1 _ _ hb).2⟩
theorem WF.lt {G : GP} {y : HS} {a : Nat} {e : HE} (h : WF G y) (ha : y.1 a = some e) : a < y.2 := (h.1 _ _ ha).1
theorem WF.ne0 {G : GP} {y : HS} {a : Nat} {e : HE} (h : WF G y) (ha : y.1 a = some e) : a ≠ gE G 0 := by
  have := (h.1 _ _ ha).2
  have := h.2.1
  omega
/-- objects stay objects of their class -/
def Cls (y y' : HS) : Prop := ∀ v c fs, y.1 v = some (ob c fs) → ∃ fs', y'.1 v = some (ob c fs')
theorem Cls.rf (y : HS) : Cls y y := fun _ _ fs h => ⟨fs, h⟩
theorem Cls.tr {y1 y2 y3 : HS} (h : Cls y1 y2) (k : Cls y2 y3) : Cls y1 y3 := fun v c fs hv => by
  obtain ⟨fs', h1⟩ := h v c fs hv
  exact k v c fs' h1
theorem Cls.put {y : HS} {a c : Nat} {fs fs' : List Value} (h : y.1 a = some (ob c fs)) : Cls y (hput y a (ob c fs')) := fun v c' gs hv => by
  by_cases hva : v = a
  · subst hva
    rw [h] at hv
    obtain ⟨rfl, rfl⟩ := ob_inj.mp (Option.some.inj hv)
    exact ⟨fs', hput_at _ _ _⟩
  · exact ⟨gs, by rw [hput_ne hva]; exact hv⟩
theorem ob_ne_ar {c t n : Nat} {fs : List Value} {g : Nat → Option Nat} : ob c fs ≠ ar t n g := by simp [ob, ar]
theorem ob_ne_ai {c t n : Nat} {fs : List Value} {g : Nat → Int32} : ob c fs ≠ ai t n g := by simp [ob, ai]
theorem Cls.putA {y : HS} {a t n : Nat} {g : Nat → Option Nat} {e : HE} (h : y.1 a = some (ar t n g)) : Cls y (hput y a e) := fun v c' gs hv => by
  by_cases hva : v = a
  · subst hva
    rw [h] at hv
    exact absurd (Option.some.inj hv).symm ob_ne_ar
  · exact ⟨gs, by rw [hput_ne hva]; exact hv⟩
theorem Cls.new {G : GP} {y : HS} {e : HE} (hw : WF G y) : Cls y (hnew y e) := fun v c' gs hv => ⟨gs, by rw [hnew_ne (Nat.ne_of_lt (hw.lt hv))]; exact hv⟩
theorem okO.cls {G : GP} {y y' : HS} {r : Option Nat} (h : okO G y r) (k : Cls y y') : okO G y' r := fun v hv => by
  obtain ⟨c, fs, hc, hr⟩ := h v hv
  rcases hr with hr | hr
  · obtain ⟨fs', h1⟩ := k v c fs hr
    exact ⟨c, fs', hc, Or.inl h1⟩
  · exact ⟨c, fs, hc, Or.inr hr⟩
theorem okO_none {G : GP} {y : HS} : okO G y none := fun v hv => by cases hv
/-- an ArrayList at a, its array at arr with room for cap -/
def Lst (G : GP) (y : HS) (a arr cap : Nat) (xs : List (Option Nat)) : Prop :=
  (∃ md, y.1 a = some (ob 18 [.int md, va_rf (some arr), .int (nI xs.length)])) ∧ xs.length < 1000 ∧
  ((arr = gE G 0 ∧ cap = 0 ∧ xs = []) ∨ (∃ g, y.1 arr = some (ar 6 cap g) ∧ xs.length ≤ cap ∧ 10 ≤ cap ∧ cap ≤ 2000 ∧ ∀ i, (h : i < xs.length) → g i = xs[i]))
theorem P31 : (2 : Nat) ^ 31 = 2147483648 := rfl
theorem Lst.rd {G : GP} {y : HS} {a arr cap : Nat} {xs : List (Option Nat)} (h : Lst G y a arr cap xs) : ∃ g, rd G y arr (ar 6 cap g) ∧ ∀ i, (h : i < xs.length) → g i = xs[i] := by
  rcases h.2.2 with ⟨h1, h2, h3⟩ | ⟨g, h1, h2, h3, h4, h5⟩
  · subst h2 h3
    exact ⟨fun _ => none, Or.inr (Or.inr (Or.inr (Or.inr (Or.inr ⟨h1, rfl⟩)))), fun i hi => absurd hi (Nat.not_lt_zero _)⟩
  · exact ⟨g, Or.inl h1, h5⟩
theorem Lst.le {G : GP} {y : HS} {a arr cap : Nat} {xs : List (Option Nat)} (h : Lst G y a arr cap xs) : xs.length ≤ cap ∧ cap ≤ 2000 := by
  rcases h.2.2 with ⟨h1, h2, h3⟩ | ⟨g, h1, h2, h3, h4, h5⟩
  · subst h2 h3; exact ⟨Nat.le_refl _, Nat.zero_le _⟩
  · exact ⟨h2, h4⟩
theorem ls_size {G : GP} {y : HS} {a arr cap : Nat} {xs : List (Option Nat)} {post : Int32 → HS → Prop} (h : Lst G y a arr cap xs) (hp : post (nI xs.length) y) : wp_J2_size G post y a := by
  obtain ⟨⟨md, h1⟩, -⟩ := h
  exact ⟨_, ⟨_, h1, rfl⟩, hp⟩
theorem sp_check {G : GP} {y : HS} {i n : Nat} {post : Int32 → HS → Prop} {q : Option Nat} (hi : i < n) (hn : n < 2 ^ 31) (hp : post (nI i) y) : wp_J11_checkIndex G post y (nI i) (nI n) q :=
  ⟨fun _ => False, fun _ h => h, fun h => absurd h (nI_pos (by omega)), fun _ => ⟨fun _ => hp, fun h => absurd (nI_lt hi hn) h⟩⟩
theorem vp_inN {i n : Nat} (h : i < n) (hn : n < 2 ^ 31) : vp_in (nI i) n := nI_in h hn
theorem ls_get {G : GP} {y : HS} {a arr cap i : Nat} {xs : List (Option Nat)} {post : Option Nat → HS → Prop} (h : Lst G y a arr cap xs) (hi : i < xs.length) (hp : post xs[i] y) : wp_J2_get G post y a (nI i) := by
  have h0 := h
  have hle := h.le
  obtain ⟨g, hg1, hg2⟩ := h.rd
  obtain ⟨⟨md, h1⟩, h2, -⟩ := h
  refine ⟨_, ⟨_, h1, rfl⟩, sp_check hi (by omega) ⟨⟨_, Or.inl h1⟩, _, ⟨_, h1, rfl⟩, arr, rfl, cap, g, hg1, vp_inN (by omega) (by omega), ?_⟩⟩
  rw [nI_clamp (by omega), hg2 i hi]
  exact hp
/-- nothing else is changed -/
def Fr (y y' : HS) (a arr : Nat) : Prop := ∀ b, b ≠ a → b ≠ arr → b < y.2 → y'.1 b = y.1 b
theorem nI_sub {a b : Nat} (h : b ≤ a) : nI a - nI b = nI (a - b) := by
  have : nI a = nI (a - b) + nI b := by rw [nI_add]; congr 1; omega
  rw [this, Int32.add_sub_cancel]
theorem nI_shr {n : Nat} (h : n < 2 ^ 20) : nI n >>> (nI 1 &&& 31) = nI (n / 2) := by
  have := pk_shrN (n := n) (by omega) (nI 1 &&& 31) 1 (by decide +kernel)
  rw [this, Nat.pow_one]
theorem nI_maxE {a b : Nat} (ha : a < 2 ^ 31) (hb : b < 2 ^ 31) : (if nI a < nI b then nI b else nI a) = nI (max a b) := by
  by_cases h : a < b
  · rw [if_pos (nI_lt h hb), Nat.max_eq_right (Nat.le_of_lt h)]
  · rw [if_neg (nI_nlt (Nat.le_of_not_lt h) ha), Nat.max_eq_left (Nat.le_of_not_lt h)]
theorem nI_minE {a b : Nat} (ha : a < 2 ^ 31) (hb : b < 2 ^ 31) : (if nI a < nI b then nI a else nI b) = nI (min a b) := by
  by_cases h : a < b
  · rw [if_pos (nI_lt h hb), Nat.min_eq_left (Nat.le_of_lt h)]
  · rw [if_neg (nI_nlt (Nat.le_of_not_lt h) ha), Nat.min_eq_right (Nat.le_of_not_lt h)]
theorem sp_newLength {G : GP} {y : HS} {o m p : Nat} {post : Int32 → HS → Prop} (ho : 0 < o + max m p) (hl : o + max m p < 2 ^ 20) (hp : post (nI (o + max m p)) y) : wp_J7_newLength G post y (nI o) (nI m) (nI p) := by
  have hP : (2 : Nat) ^ 20 = 1048576 := rfl
  have hm : m ≤ max m p := Nat.le_max_left _ _
  have hp' : p ≤ max m p := Nat.le_max_right _ _
  refine ⟨fun _ => False, fun _ h => h, fun x4 hx => ?_⟩
  rw [nI_maxE (by omega) (by omega), nI_add] at hx
  subst hx
  refine ⟨fun h => absurd h ?_, fun _ => ⟨fun h => absurd h ?_, fun _ => hp⟩⟩
  · exact nI_ge ho (by omega)
  · have : (2147483639 : Int32) = nI 2147483639 := rfl
    rw [this]
    exact nI_nlt (by omega) (by omega)
/-- a longer array for a list -/
theorem ls_grow {G : GP} {y : HS} {a arr cap B : Nat} {xs : List (Option Nat)} {post : Option Nat → HS → Prop} (hw : WF G y) (h : Lst G y a arr cap xs) (hfull : cap = xs.length) (hn : xs.length < 900) (hok : ∀ x ∈ xs, okO G y x) (hB : 1 + (xs.length + xs.length / 2 + 10) / 20 ≤ B)
    (hp : ∀ (y' : HS) (cap' : Nat) (g : Nat → Option Nat), WF G y' → y'.1 y.2 = some (ar 6 cap' g) → xs.length + 1 ≤ cap' → 10 ≤ cap' → cap' ≤ 2000 → (∀ i, (h : i < xs.length) → g i = xs[i]) → (∃ md, y.1 a = some (ob 18 [.int md, va_rf (some arr), .int (nI xs.length)]) ∧ y'.1 a = some (ob 18 [.int md, va_rf (some y.2), .int (nI xs.length)])) → Fr y y' a a → y.2 + 1 = y'.2 → Cls y y' → post (some y.2) y') : wp_J2_grow G B post y a := by
  have hP : (2 : Nat) ^ 20 = 1048576 := rfl
  obtain ⟨⟨md, h1⟩, h2, h3⟩ := h
  have hlt := hw.lt h1
  refine ⟨_, ⟨_, h1, rfl⟩, ⟨_, Or.inl h1⟩, B, by omega, ?_⟩
  rw [nI_add]
  rcases h3 with ⟨e1, e2, e3⟩ | ⟨g, e1, e2, e3, e4, e5⟩
  · subst e3 e2
    refine ⟨fun _ _ _ => False, fun _ _ _ h => h.elim, _, ⟨_, h1, rfl⟩, arr, rfl, 0, fun _ => none, Or.inr (Or.inr (Or.inr (Or.inr (Or.inr ⟨e1, rfl⟩)))), fun x hx => ?_⟩
    subst hx
    refine ⟨fun h => absurd h (by decide), fun _ => ⟨_, ⟨_, h1, rfl⟩, fun _ => ?_, fun h => absurd (by rw [e1]) h⟩⟩
    refine ⟨10, by rw [nI_maxE (by decide) (by decide)]; rfl, by decide, by simp at hB ⊢; omega, ?_⟩
    intro a2 ha2 y2 hy2
    subst ha2 hy2
    have h4 : (hnew y (ar 6 10 fun _ => none)).1 a = some (ob 18 [.int md, va_rf (some arr), .int (nI 0)]) := by rw [hnew_ne (by omega)]; exact h1
    refine ⟨_, h4, by simp, fun y3 hy3 => ?_⟩
    subst hy3
    refine hp _ 10 (fun _ => none) (hw.new.put h4) ?_ (by simp) (by omega) (by omega) (fun i hi => absurd hi (Nat.not_lt_zero _)) ⟨md, h1, ?_⟩ ?_ ?_ ((Cls.new hw).tr (Cls.put h4))
    · rw [hput_ne (by omega), hnew_at]
    · rw [hput_at]; rfl
    · intro b hb _ hlt2
      rw [hput_ne hb, hnew_ne (by omega)]
    · rfl
  · have hne : a ≠ arr := fun hh => by rw [← hh, h1] at e1; exact ob_ne_ar (Option.some.inj e1)
    subst hfull
    have hlt2 := hw.lt e1
    refine ⟨fun y3 u x => y3 = y ∧ u = 0 ∧ x = nI xs.length, ?_, _, ⟨_, h1, rfl⟩, arr, rfl, xs.length, g, Or.inl e1, fun x hx => ?_⟩
    · rintro y3 u x ⟨rfl, rfl, rfl⟩
      refine ⟨Nat.zero_le _, ?_⟩
      rw [nI_sub (by omega), nI_shr (by omega)]
      refine sp_newLength (by omega) (by omega) ?_
      refine ⟨_, ⟨_, h1, rfl⟩, B, by omega, arr, rfl, xs.length, g, Or.inl e1, B, by omega, fun h => absurd rfl h, fun _ => ?_⟩
      refine ⟨xs.length + max (xs.length + 1 - xs.length) (xs.length / 2), rfl, by omega, by omega, fun a2 ha2 y2 hy2 => ?_⟩
      subst ha2 hy2
      have h4 : (hnew y3 (ar 6 (xs.length + max (xs.length + 1 - xs.length) (xs.length / 2)) fun _ => none)).1 arr = some (ar 6 xs.length g) := by rw [hnew_ne (by omega)]; exact e1
      have h5 : (hnew y3 (ar 6 (xs.length + max (xs.length + 1 - xs.length) (xs.length / 2)) fun _ => none)).1 a = some (ob 18 [.int md, va_rf (some arr), .int (nI xs.length)]) := by rw [hnew_ne (by omega)]; exact h1
      refine ⟨arr, rfl, xs.length, g, Or.inl h4, xs.length, _, xs.length, 0, 0, g, fun _ => none, ⟨?_, rfl, rfl⟩, h4, hnew_at _ _, by omega, by omega, by omega, by omega, ?_, fun y5 hy5 => ?_⟩
      · rw [nI_minE (by omega) (by omega)]
        congr 1
        omega
      · intro i hi
        rw [Nat.zero_add, e5 i hi]
        exact (hok _ (List.getElem_mem hi)).cls (Cls.new hw)
      · subst hy5
        have h6 : (hput (hnew y3 (ar 6 (xs.length + max (xs.length + 1 - xs.length) (xs.length / 2)) fun _ => none)) y3.2 (ar 6 (xs.length + max (xs.length + 1 - xs.length) (xs.length / 2)) (va_cpy g (fun _ => none) 0 0 xs.length))).1 a = some (ob 18 [.int md, va_rf (some arr), .int (nI xs.length)]) := by rw [hput_ne (by omega)]; exact h5
        refine ⟨_, h6, by simp, fun y6 hy6 => ?_⟩
        subst hy6
        refine hp _ (xs.length + max (xs.length + 1 - xs.length) (xs.length / 2)) (va_cpy g (fun _ => none) 0 0 xs.length) ((hw.new.put (hnew_at _ _)).put h6) ?_ (by omega) (by omega) (by omega) ?_ ⟨md, h1, ?_⟩ ?_ rfl (((Cls.new hw).tr (Cls.putA (hnew_at _ _))).tr (Cls.put h6))
        · rw [hput_ne (by omega), hput_at]
        · intro i hi
          simp [va_cpy, hi, e5 i hi]
        · rw [hput_at]; rfl
        · intro b hb _ hb2
          rw [hput_ne hb, hput_ne (by omega), hnew_ne (by omega)]
    · subst hx
      refine ⟨fun _ => ⟨rfl, rfl, rfl⟩, fun h => absurd ?_ h⟩
      have : (0 : Int32) = nI 0 := rfl
      rw [this]
      exact nI_lt (by omega) (by omega)
theorem Fr.tr {y1 y2 y3 : HS} {a arr arr2 : Nat} (h : Fr y1 y2 a arr) (k : Fr y2 y3 a arr2) (hz : y1.2 ≤ y2.2) (hn : arr2 = arr ∨ y1.2 ≤ arr2 ∨ arr2 = a) : Fr y1 y3 a arr := fun b h1 h2 h3 => by
  rw [k b h1 (by omega) (by omega)]
  exact h b h1 h2 h3
theorem Fr.put {y : HS} {a arr : Nat} {e : HE} : Fr y (hput y a e) a arr := fun b h1 _ _ => hput_ne h1
theorem Fr.putA {y : HS} {a arr : Nat} {e : HE} : Fr y (hput y arr e) a arr := fun b _ h2 _ => hput_ne h2
theorem Fr.rf {y : HS} {a arr : Nat} : Fr y y a arr := fun b _ _ _ => rfl
/-- what a longer row may cost -/
def gco (n : Nat) : Nat := if n = 0 then 1 else if n < 10 then 0 else 1 + (n + n / 2 + 10) / 20
theorem gco_grow {n B : Nat} (h : gco n ≤ B) (hn : n = 0 ∨ 10 ≤ n) : 1 + (n + n / 2 + 10) / 20 ≤ B := by
  unfold gco at h
  rcases hn with rfl | hn
  · simpa using h
  · rw [if_neg (by omega), if_neg (by omega)] at h; exact h
theorem Lst.full {G : GP} {y : HS} {a arr cap : Nat} {xs : List (Option Nat)} (h : Lst G y a arr cap xs) (hc : cap = xs.length) : xs.length = 0 ∨ 10 ≤ xs.length := by
  rcases h.2.2 with ⟨h1, h2, h3⟩ | ⟨g, h1, h2, h3, h4, h5⟩
  · exact Or.inl (by rw [h3]; rfl)
  · exact Or.inr (by omega)
/-- what the list operations leave behind -/
def Lp (G : GP) (y y' : HS) (a arr : Nat) (xs : List (Option Nat)) : Prop := ∃ arr' cap', WF G y' ∧ Lst G y' a arr' cap' xs ∧ Fr y y' a arr ∧ (arr' = arr ∨ y.2 ≤ arr') ∧ y.2 ≤ y'.2 ∧ Cls y y'
theorem ls_add {G : GP} {y : HS} {a arr cap B : Nat} {r : Option Nat} {xs : List (Option Nat)} {post : Bool → HS → Prop} (hw : WF G y) (h : Lst G y a arr cap xs) (hn : xs.length < 900) (hr : okO G y r) (hok : ∀ x ∈ xs, okO G y x) (hB : gco xs.length ≤ B)
    (hp : ∀ y' : HS, Lp G y y' a arr (xs ++ [r]) → post true y') : wp_J2_add G B post y a r := by
  have hle := h.le
  obtain ⟨⟨md, h1⟩, h2, h3⟩ := h
  have hlt := hw.lt h1
  refine ⟨_, ⟨_, h1, rfl⟩, _, h1, by simp, fun y2 hy2 => ?_⟩
  have h4 : y2.1 a = some (ob 18 [.int (md + nI 1), va_rf (some arr), .int (nI xs.length)]) := by rw [hy2, hput_at]; rfl
  have hw2 : WF G y2 := by rw [hy2]; exact hw.put h1
  have hc2 : Cls y y2 := by rw [hy2]; exact Cls.put h1
  have hf2 : Fr y y2 a arr := by rw [hy2]; exact Fr.put
  have hz2 : y2.2 = y.2 := by rw [hy2]; rfl
  have hL2 : Lst G y2 a arr cap xs := ⟨⟨_, h4⟩, h2, by
    rcases h3 with h3 | ⟨g, e1, e2⟩
    · exact Or.inl h3
    · refine Or.inr ⟨g, ?_, e2⟩
      have hne : arr ≠ a := fun hh => by rw [hh, h1] at e1; exact ob_ne_ar (Option.some.inj e1)
      rw [hy2, hput_ne hne]; exact e1⟩
  clear hy2
  obtain ⟨g, hg1, hg2⟩ := hL2.rd
  refine ⟨_, ⟨_, h4, rfl⟩, _, ⟨_, h4, rfl⟩, ⟨_, Or.inl h4⟩, B, by omega, ?_⟩
  refine ⟨fun y3 u r4 => u ≤ B ∧ ∃ (arr' cap' : Nat) (g : Nat → Option Nat) (md : Int32), r4 = some arr' ∧ WF G y3 ∧ y3.1 arr' = some (ar 6 cap' g) ∧ xs.length + 1 ≤ cap' ∧ 10 ≤ cap' ∧ cap' ≤ 2000 ∧ (∀ i, (h : i < xs.length) → g i = xs[i]) ∧ y3.1 a = some (ob 18 [.int md, va_rf (some arr'), .int (nI xs.length)]) ∧ Fr y2 y3 a arr ∧ (arr' = arr ∨ y2.2 ≤ arr') ∧ y2.2 ≤ y3.2 ∧ Cls y2 y3, ?_, ?_⟩
  · rintro y3 u r4 ⟨hu, arr', cap', g, md, rfl, k1, k2, k3, k4, k5, k6, k7, k8, k9, k10, k11⟩
    refine ⟨hu, arr', rfl, cap', g, k2, vp_inN (by omega) (by omega), (hr.cls hc2).cls k11, fun y8 hy8 => ?_⟩
    have hne : a ≠ arr' := fun hh => by rw [← hh, k7] at k2; exact ob_ne_ar (Option.some.inj k2)
    have k12 : y8.1 a = some (ob 18 [.int md, va_rf (some arr'), .int (nI xs.length)]) := by rw [hy8, hput_ne hne]; exact k7
    refine ⟨_, k12, by simp, fun y9 hy9 => hp y9 ?_⟩
    refine ⟨arr', cap', ?_, ⟨⟨md, ?_⟩, by simp; omega, Or.inr ⟨va_up g (nI xs.length).toNatClampNeg r, ?_, by simp; omega, k4, k5, ?_⟩⟩, ?_, ?_, ?_, ?_⟩
    · rw [hy9]; exact WF.put (by rw [hy8]; exact k1.put k2) k12
    · rw [hy9, hput_at]; simp [nI_add]
    · rw [hy9, hput_ne (Ne.symm hne), hy8, hput_at]
    · intro i hi
      rw [nI_clamp (by omega)]
      by_cases hin : i = xs.length
      · subst hin; simp [va_up]
      · have hi2 : i < xs.length := by simp at hi; omega
        simp [va_up, hin, k6 i hi2, List.getElem_append_left hi2]
    · refine hf2.tr (k8.tr ((Fr.putA (a := a) (arr := arr') (y := y3) (e := ar 6 cap' (va_up g (nI xs.length).toNatClampNeg r))).tr (by rw [hy9, ← hy8]; exact Fr.put (arr := arr')) (Nat.le_refl _) (Or.inl rfl)) k10 (by omega)) (by omega) (Or.inl rfl)
    · omega
    · rw [hy9, hy8]; show y.2 ≤ y3.2; omega
    · rw [hy9]; exact (hc2.tr (k11.tr (by rw [hy8]; exact Cls.putA k2))).tr (Cls.put k12)
  · refine ⟨arr, rfl, cap, g, hg1, fun hnf => ?_, fun hf => ⟨⟨_, Or.inl h4⟩, B, by omega, ?_⟩⟩
    · have hc : xs.length ≠ cap := fun hh => hnf (by rw [hh])
      rcases hL2.2.2 with ⟨e1, e2, e3⟩ | ⟨g', e1, e2, e3, e4, e5⟩
      · subst e2 e3; exact absurd rfl hc
      · exact ⟨Nat.zero_le _, arr, cap, g', _, rfl, hw2, e1, by omega, e3, e4, e5, h4, Fr.rf, Or.inl rfl, Nat.le_refl _, Cls.rf _⟩
    · have hc : cap = xs.length := ((nI_eq (by omega) (by omega)).mp hf).symm
      refine ls_grow hw2 hL2 hc hn (fun x hx => (hok x hx).cls hc2) (gco_grow hB (hL2.full hc)) (fun y' cap' g k1 k2 k3 k4 k5 k6 k7 k8 k9 k10 => ?_)
      obtain ⟨md', k7, k7'⟩ := k7
      exact ⟨by omega, y2.2, cap', g, md', rfl, k1, k2, k3, k4, k5, k6, k7', fun b b1 b2 b3 => k8 b b1 b1 b3, Or.inr (Nat.le_refl _), by omega, k10⟩
