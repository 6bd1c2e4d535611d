/-! Plain laws: inserting, removing, finding, clearing; a new list -/
set_option maxRecDepth 100000
/-- the mark of changes goes up by one -/
theorem ls_mod {G : GP} {y y2 : HS} {a arr cap : Nat} {md md' : Int32} {xs : List (Option Nat)} (hw : WF G y) (h : Lst G y a arr cap xs) (h1 : y.1 a = some (ob 18 [.int md, va_rf (some arr), .int (nI xs.length)])) (hy2 : y2 = hput y a (ob 18 [.int md', va_rf (some arr), .int (nI xs.length)])) :
    y2.1 a = some (ob 18 [.int md', va_rf (some arr), .int (nI xs.length)]) ∧ WF G y2 ∧ Cls y y2 ∧ Fr y y2 a arr ∧ y2.2 = y.2 ∧ Lst G y2 a arr cap xs := by
  have h4 : y2.1 a = some (ob 18 [.int md', va_rf (some arr), .int (nI xs.length)]) := by rw [hy2, hput_at]
  refine ⟨h4, by rw [hy2]; exact hw.put h1, by rw [hy2]; exact Cls.put h1, by rw [hy2]; exact Fr.put, by rw [hy2]; rfl, ⟨_, h4⟩, h.2.1, ?_⟩
  rcases h.2.2 with h3 | ⟨g, e1, e2⟩
  · exact Or.inl h3
  · refine Or.inr ⟨g, ?_, e2⟩
    have hne : arr ≠ a := fun hh => by rw [hh, h1] at e1; exact ob_ne_ar (Option.some.inj e1)
    rw [hy2, hput_ne hne]; exact e1
theorem ls_insert {G : GP} {y : HS} {a arr cap B i : Nat} {r : Option Nat} {xs : List (Option Nat)} {post : HS → Prop} (hw : WF G y) (h : Lst G y a arr cap xs) (hi : i ≤ xs.length) (hn : xs.length < 900) (hr : okO G y r) (hok : ∀ x ∈ xs, okO G y x) (hB : gco xs.length ≤ B)
    (hp : ∀ y' : HS, Lp G y y' a arr (xs.insertIdx i r) → post y') : wp_J2_add_3 G B post y a (nI i) r := by
  have hle := h.le
  obtain ⟨md, h1⟩ := h.1
  have h2 := h.2.1
  have hlt := hw.lt h1
  have hlen : (xs.insertIdx i r).length = xs.length + 1 := List.length_insertIdx_of_le_length hi _
  refine ⟨fun y3 u x4 r5 => u ≤ B ∧ x4 = nI xs.length ∧ ∃ (arr' cap' : Nat) (g : Nat → Option Nat) (md : Int32), r5 = some arr' ∧ WF G y3 ∧ y3.1 arr' = some (ar 6 cap' g) ∧ xs.length + 1 ≤ cap' ∧ 10 ≤ cap' ∧ cap' ≤ 2000 ∧ (∀ i, (h : i < xs.length) → g i = xs[i]) ∧ y3.1 a = some (ob 18 [.int md, va_rf (some arr'), .int (nI xs.length)]) ∧ Fr y y3 a arr ∧ (arr' = arr ∨ y.2 ≤ arr') ∧ y.2 ≤ y3.2 ∧ Cls y y3, ?_, ⟨_, Or.inl h1⟩, ⟨fun _ => False, fun _ h => h, _, ⟨_, h1, rfl⟩, fun h => absurd h (nI_nlt hi (by omega)), fun _ => ⟨fun _ => ?_, fun h => absurd (nI_pos' (by omega)) h⟩⟩⟩
  · rintro y3 u x4 r5 ⟨hu, rfl, arr', cap', g, md, rfl, k1, k2, k3, k4, k5, k6, k7, k8, k9, k10, k11⟩
    have hne : a ≠ arr' := fun hh => by rw [← hh, k7] at k2; exact ob_ne_ar (Option.some.inj k2)
    refine ⟨hu, arr', rfl, cap', cap', xs.length - i, i + 1, i, g, g, ⟨nI_sub hi, nI_add _ _, rfl⟩, k2, k2, by omega, by omega, by omega, by omega, ?_, fun y14 hy14 => ?_⟩
    · intro j hj
      rw [k6 (i + j) (by omega)]
      exact (hok _ (List.getElem_mem _)).cls k11
    · have k12 : y14.1 arr' = some (ar 6 cap' (va_cpy g g i (i + 1) (xs.length - i))) := by rw [hy14, hput_at]
      have k13 : Cls y3 y14 := by rw [hy14]; exact Cls.putA k2
      refine ⟨cap', _, k12, vp_inN (by omega) (by omega), (hr.cls k11).cls k13, fun y18 hy18 => ?_⟩
      have k14 : y18.1 a = some (ob 18 [.int md, va_rf (some arr'), .int (nI xs.length)]) := by rw [hy18, hput_ne hne, hy14, hput_ne hne]; exact k7
      refine ⟨_, k14, by simp, fun y19 hy19 => hp y19 ⟨arr', cap', ?_, ⟨⟨md, ?_⟩, by omega, Or.inr ⟨va_up (va_cpy g g i (i + 1) (xs.length - i)) (nI i).toNatClampNeg r, ?_, by omega, k4, k5, ?_⟩⟩, ?_, k9, ?_, ?_⟩⟩
      · rw [hy19]; exact WF.put (by rw [hy18]; exact WF.put (by rw [hy14]; exact k1.put k2) k12) k14
      · rw [hy19, hput_at, hlen, ← nI_add]; rfl
      · rw [hy19, hput_ne (Ne.symm hne), hy18, hput_at]
      · intro j hj
        rw [nI_clamp (by omega)]
        rcases Nat.lt_trichotomy j i with hji | hji | hji
        · have e1 : ¬ j = i := by omega
          have e2 : ¬ (i + 1 ≤ j ∧ j < i + 1 + (xs.length - i)) := by omega
          rw [List.getElem_insertIdx_of_lt hji]
          simp only [va_up, va_cpy, e1, e2, if_false]
          exact k6 j (by omega)
        · subst hji
          rw [List.getElem_insertIdx_self]
          simp [va_up]
        · have e1 : ¬ j = i := by omega
          have e2 : i + 1 ≤ j ∧ j < i + 1 + (xs.length - i) := by omega
          rw [List.getElem_insertIdx_of_gt hji]
          simp only [va_up, va_cpy, e1, e2, if_false, and_self, if_true]
          have e3 : i + (j - (i + 1)) = j - 1 := by omega
          rw [e3]
          exact k6 (j - 1) (by omega)
      · intro b b1 b2 b3
        have b4 : b ≠ arr' := by rcases k9 with k9 | k9 <;> omega
        rw [hy19, hput_ne b1, hy18, hput_ne b4, hy14, hput_ne b4]
        exact k8 b b1 b2 b3
      · rw [hy19, hy18, hy14]; exact k10
      · rw [hy19]; exact (k11.tr (k13.tr (by rw [hy18]; exact Cls.putA k12))).tr (Cls.put k14)
  · refine ⟨_, ⟨_, h1, rfl⟩, _, h1, by simp, fun y2 hy2 => ?_⟩
    obtain ⟨h4, hw2, hc2, hf2, hz2, hL2⟩ := ls_mod hw h h1 hy2
    clear hy2
    obtain ⟨g, hg1, hg2⟩ := hL2.rd
    refine ⟨_, ⟨_, h4, rfl⟩, _, ⟨_, h4, rfl⟩, arr, rfl, cap, g, hg1, fun hnf => ?_, fun hf => ⟨⟨_, Or.inl h4⟩, B, by omega, ?_⟩⟩
    · have hc : xs.length ≠ cap := fun hh => hnf (by rw [hh])
      rcases hL2.2.2 with ⟨e1, e2, e3⟩ | ⟨g', e1, e2, e3, e4, e5⟩
      · subst e2 e3; exact absurd rfl hc
      · exact ⟨Nat.zero_le _, rfl, arr, cap, g', _, rfl, hw2, e1, by omega, e3, e4, e5, h4, hf2, Or.inl rfl, by omega, hc2⟩
    · have hc : cap = xs.length := ((nI_eq (by omega) (by omega)).mp hf).symm
      refine ls_grow hw2 hL2 hc hn (fun x hx => (hok x hx).cls hc2) (gco_grow hB (hL2.full hc)) (fun y' cap' g k1 k2 k3 k4 k5 k6 k7 k8 k9 k10 => ?_)
      obtain ⟨md', k7, k7'⟩ := k7
      refine ⟨by omega, rfl, y2.2, cap', g, md', rfl, k1, k2, k3, k4, k5, k6, k7', fun b b1 b2 b3 => ?_, Or.inr (by omega), by omega, hc2.tr k10⟩
      rw [k8 b b1 b1 (by omega)]
      exact hf2 b b1 b2 b3
theorem ls_fastRemove {G : GP} {y : HS} {a arr cap i : Nat} {g : Nat → Option Nat} {xs : List (Option Nat)} {post : HS → Prop} (hw : WF G y) (h : Lst G y a arr cap xs) (hi : i < xs.length) (hok : ∀ x ∈ xs, okO G y x)
    (hp : ∀ y' : HS, Lp G y y' a arr (xs.eraseIdx i) → post y') : wp_J2_fastRemove G post y a (some arr) (nI i) := by
  have hle := h.le
  obtain ⟨md, h1⟩ := h.1
  have h2 := h.2.1
  have hlt := hw.lt h1
  have hlen : (xs.eraseIdx i).length = xs.length - 1 := List.length_eraseIdx_of_lt hi
  rcases h.2.2 with ⟨e1, e2, e3⟩ | ⟨g, e1, e2, e3, e4, e5⟩
  · subst e3; exact absurd hi (Nat.not_lt_zero _)
  have hne : a ≠ arr := fun hh => by rw [← hh, h1] at e1; exact ob_ne_ar (Option.some.inj e1)
  refine ⟨fun y3 x4 => x4 = nI (xs.length - 1) ∧ ∃ (g' : Nat → Option Nat) (md : Int32), WF G y3 ∧ y3.1 arr = some (ar 6 cap g') ∧ (∀ j, (h : j < (xs.eraseIdx i).length) → g' j = (xs.eraseIdx i)[j]) ∧ y3.1 a = some (ob 18 [.int md, va_rf (some arr), .int (nI xs.length)]) ∧ Fr y y3 a arr ∧ y.2 ≤ y3.2 ∧ Cls y y3, ?_, _, ⟨_, h1, rfl⟩, _, h1, by simp, fun y2 hy2 => ?_⟩
  · rintro y3 x4 ⟨rfl, g', md, k1, k2, k3, k4, k5, k6, k7⟩
    refine ⟨_, k4, by simp, fun y5 hy5 => ?_⟩
    have k8 : y5.1 arr = some (ar 6 cap g') := by rw [hy5, hput_ne (Ne.symm hne)]; exact k2
    refine ⟨arr, rfl, cap, g', k8, vp_inN (by omega) (by omega), okO_none, fun y9 hy9 => hp y9 ⟨arr, cap, ?_, ⟨⟨md, ?_⟩, by omega, Or.inr ⟨va_up g' (nI (xs.length - 1)).toNatClampNeg none, by rw [hy9, hput_at], by omega, e3, e4, ?_⟩⟩, ?_, Or.inl rfl, ?_, ?_⟩⟩
    · rw [hy9]; exact WF.put (by rw [hy5]; exact k1.put k4) k8
    · rw [hy9, hput_ne hne, hy5, hput_at, hlen]; rfl
    · intro j hj
      rw [nI_clamp (by omega)]
      have e6 : ¬ j = xs.length - 1 := by omega
      simp only [va_up, e6, if_false]
      exact k3 j hj
    · intro b b1 b2 b3
      rw [hy9, hput_ne b2, hy5, hput_ne b1]
      exact k5 b b1 b2 b3
    · rw [hy9, hy5]; exact k6
    · rw [hy9]; exact (k7.tr (by rw [hy5]; exact Cls.put k4)).tr (Cls.putA k8)
  · obtain ⟨h4, hw2, hc2, hf2, hz2, hL2⟩ := ls_mod hw h h1 hy2
    have h5 : y2.1 arr = some (ar 6 cap g) := by rw [hy2, hput_ne (Ne.symm hne)]; exact e1
    clear hy2
    refine ⟨_, ⟨_, h4, rfl⟩, fun x15 hx15 => ?_⟩
    rw [nI_sub (by omega)] at hx15
    subst hx15
    rw [nI_sub (by omega)]
    refine ⟨fun hge => ?_, fun hlt2 => ?_⟩
    · have hil : i = xs.length - 1 := by
        have := (nI_leI (by omega) (by omega)).mp hge
        omega
      refine ⟨rfl, g, _, hw2, h5, fun j hj => ?_, h4, hf2, by omega, hc2⟩
      rw [List.getElem_eraseIdx_of_lt hj (by omega)]
      exact e5 j (by omega)
    · have hil : i < xs.length - 1 := by
        rcases Nat.lt_or_ge i (xs.length - 1) with h | h
        · exact h
        · exact absurd (nI_le h (by omega)) hlt2
      refine ⟨arr, rfl, cap, cap, xs.length - 1 - i, i, i + 1, g, g, ⟨nI_sub (by omega), rfl, nI_add _ _⟩, h5, h5, by omega, by omega, by omega, by omega, ?_, fun y24 hy24 => ⟨rfl, va_cpy g g (i + 1) i (xs.length - 1 - i), md + nI 1, ?_, ?_, ?_, ?_, ?_, ?_, ?_⟩⟩
      · intro j hj
        rw [e5 (i + 1 + j) (by omega)]
        exact (hok _ (List.getElem_mem _)).cls hc2
      · rw [hy24]; exact hw2.put h5
      · rw [hy24, hput_at]
      · intro j hj
        rcases Nat.lt_or_ge j i with hji | hji
        · have e6 : ¬ (i ≤ j ∧ j < i + (xs.length - 1 - i)) := by omega
          rw [List.getElem_eraseIdx_of_lt hj hji]
          simp only [va_cpy, e6, if_false]
          exact e5 j (by omega)
        · have e6 : i ≤ j ∧ j < i + (xs.length - 1 - i) := by omega
          rw [List.getElem_eraseIdx_of_ge hj hji]
          simp only [va_cpy, e6, and_self, if_true]
          have e7 : i + 1 + (j - i) = j + 1 := by omega
          rw [e7]
          exact e5 (j + 1) (by omega)
      · rw [hy24, hput_ne hne]; exact h4
      · intro b b1 b2 b3
        rw [hy24, hput_ne b2]
        exact hf2 b b1 b2 b3
      · rw [hy24]; show y.2 ≤ y2.2; omega
      · rw [hy24]; exact hc2.tr (Cls.putA h5)
