/-! Plain laws: removing by value, places, clearing, a new list -/
set_option maxRecDepth 100000
theorem idx_at {vs : List Int32} {v : Int32} {k : Nat} (hk : k < vs.length) (hno : ∀ j (hj : j < vs.length), j < k → v ≠ vs[j]) (e : v = vs[k]) : vs.idxOf v = k := by
  induction vs generalizing k with
  | nil => exact absurd hk (Nat.not_lt_zero _)
  | cons a t ih =>
    cases k with
    | zero =>
      have : v = a := e
      subst this
      simp
    | succ k =>
      have h0 := hno 0 (Nat.zero_lt_succ _) (Nat.zero_lt_succ _)
      have h0' : v ≠ a := h0
      have hb : (a == v) = false := beq_false_of_ne (Ne.symm h0')
      rw [List.idxOf_cons, hb, cond_false]
      rw [ih (Nat.lt_of_succ_lt_succ hk) (fun j hj hjk => hno (j + 1) (Nat.succ_lt_succ hj) (Nat.succ_lt_succ hjk)) e]
theorem ls_remove {G : GP} {y : HS} {a arr cap : Nat} {xs : List (Option Nat)} {vs : List Int32} {r : Option Nat} {v : Int32} {post : Bool → HS → Prop} (hw : WF G y) (h : Lst G y a arr cap xs) (hv : BX G y xs vs) (hr : bx G y r v) (h0 : v ∉ vs → post false y)
    (hp : ∀ y' : HS, v ∈ vs → vs.idxOf v < xs.length → Lp G y y' a arr (xs.eraseIdx (vs.idxOf v)) → post true y') : wp_J2_remove G post y a r := by
  have hle := h.le
  obtain ⟨q, rfl, hq⟩ := hr
  obtain ⟨g, hg1, hg2⟩ := h.rd
  obtain ⟨md, h1⟩ := h.1
  have h2 := h.2.1
  have hlen := hv.len
  refine ⟨fun y3 r4 x5 => y3 = y ∧ r4 = some arr ∧ v ∈ vs ∧ vs.idxOf v < xs.length ∧ x5 = nI (vs.idxOf v), ?_, _, ⟨_, h1, rfl⟩, _, ⟨_, h1, rfl⟩, fun h => (by cases h), fun a3 ha3 => ?_⟩
  · rintro y3 r4 x5 ⟨rfl, rfl, hm, hlt, rfl⟩
    exact ⟨⟨_, Or.inl h1⟩, ls_fastRemove (g := g) hw h hlt hv.ok (fun y' hL => hp y' hm hlt hL)⟩
  cases ha3
  refine ⟨fun n y' x => y' = y ∧ ∃ k, x = nI k ∧ k ≤ xs.length ∧ n = xs.length - k ∧ ∀ j (hj : j < vs.length), j < k → v ≠ vs[j], ⟨_, rfl, 0, rfl, Nat.zero_le _, rfl, fun j _ h => absurd h (Nat.not_lt_zero _)⟩, ?_⟩
  rintro n y' x ⟨rfl, k, rfl, hk, rfl, hno⟩
  refine ⟨fun hge => h0 (fun hm => ?_), fun hlt => ?_⟩
  · have : k = xs.length := by
      have := (nI_leI (by omega) (by omega)).mp hge
      omega
    obtain ⟨j, hj, e⟩ := List.getElem_of_mem hm
    exact hno j hj (by omega) e.symm
  · have hk2 : k < xs.length := by
      rcases Nat.lt_or_ge k xs.length with h | h
      · exact h
      · exact absurd (nI_le h (by omega)) hlt
    refine ⟨arr, rfl, cap, g, hg1, vp_inN (by omega) (by omega), fun b y'' => y'' = y' ∧ b = decide (v = vs[k]'(by omega)), ?_, ⟨_, hq⟩, ?_⟩
    · rintro b y'' ⟨rfl, rfl⟩
      refine ⟨fun hb => ⟨xs.length - (k + 1), by omega, rfl, k + 1, by rw [nI_add], by omega, rfl, fun j hj hjk => ?_⟩, fun hb => ?_⟩
      · by_cases hjk2 : j = k
        · subst hjk2; exact of_decide_eq_false hb
        · exact hno j hj (by omega)
      · have e := of_decide_eq_true hb
        have hi := idx_at (by omega) hno e
        refine ⟨rfl, rfl, ?_, by omega, by rw [hi]⟩
        rw [e]; exact List.getElem_mem _
    · rw [nI_clamp (by omega), hg2 k hk2]
      exact sp_eq21 hq (hv.at k hk2 (by omega)) ⟨rfl, rfl⟩
/-- the place of an object that is told by its address; -1: none -/
def plc (xs : List (Option Nat)) (r : Option Nat) : Int32 := if xs.idxOf r < xs.length then nI (xs.idxOf r) else -1
theorem idx_atO {vs : List (Option Nat)} {v : Option Nat} {k : Nat} (hk : k < vs.length) (hno : ∀ j (hj : j < vs.length), j < k → v ≠ vs[j]) (e : v = vs[k]) : vs.idxOf v = k := by
  induction vs generalizing k with
  | nil => exact absurd hk (Nat.not_lt_zero _)
  | cons a t ih =>
    cases k with
    | zero =>
      have : v = a := e
      subst this
      simp
    | succ k =>
      have h0' : v ≠ a := hno 0 (Nat.zero_lt_succ _) (Nat.zero_lt_succ _)
      have hb : (a == v) = false := beq_false_of_ne (Ne.symm h0')
      rw [List.idxOf_cons, hb, cond_false]
      rw [ih (Nat.lt_of_succ_lt_succ hk) (fun j hj hjk => hno (j + 1) (Nat.succ_lt_succ hj) (Nat.succ_lt_succ hjk)) e]
theorem plc_no {xs : List (Option Nat)} {r : Option Nat} (h : ∀ j (hj : j < xs.length), r ≠ xs[j]) : plc xs r = -1 := by
  have : ¬ xs.idxOf r < xs.length := fun hh => by
    have := List.idxOf_lt_length_iff.mp hh
    obtain ⟨j, hj, e⟩ := List.getElem_of_mem this
    exact h j hj e.symm
  rw [plc, if_neg this]
theorem ls_indexOf {G : GP} {y : HS} {a arr cap : Nat} {xs : List (Option Nat)} {r : Option Nat} {post : Int32 → HS → Prop} (h : Lst G y a arr cap xs) (hr : ∀ q, r = some q → (∃ fs, rd G y q (ob 11 fs)) ∨ (∃ fs, rd G y q (ob 7 fs))) (hp : post (plc xs r) y) : wp_J2_indexOf G post y a r := by
  have hle := h.le
  obtain ⟨g, hg1, hg2⟩ := h.rd
  obtain ⟨md, h1⟩ := h.1
  have h2 := h.2.1
  refine ⟨_, ⟨_, h1, rfl⟩, ⟨_, Or.inl h1⟩, _, ⟨_, h1, rfl⟩, fun hn => ?_, fun a3 ha3 => ?_⟩
  · subst hn
    refine ⟨fun n y' x => y' = y ∧ ∃ k, x = nI k ∧ k ≤ xs.length ∧ n = xs.length - k ∧ ∀ j (hj : j < xs.length), j < k → none ≠ xs[j], ⟨_, rfl, 0, rfl, Nat.zero_le _, rfl, fun j _ h => absurd h (Nat.not_lt_zero _)⟩, ?_⟩
    rintro n y' x ⟨rfl, k, rfl, hk, rfl, hno⟩
    refine ⟨fun hge => ?_, fun hlt => ?_⟩
    · have : k = xs.length := by
        have := (nI_leI (by omega) (by omega)).mp hge
        omega
      rw [plc_no (fun j hj => hno j hj (by omega))] at hp
      exact hp
    · have hk2 : k < xs.length := by
        rcases Nat.lt_or_ge k xs.length with h | h
        · exact h
        · exact absurd (nI_le h (by omega)) hlt
      refine ⟨arr, rfl, cap, g, hg1, vp_inN (by omega) (by omega), ?_⟩
      rw [nI_clamp (by omega), hg2 k hk2]
      refine ⟨fun e => ?_, fun a16 e => ⟨xs.length - (k + 1), by omega, rfl, k + 1, by rw [nI_add], by omega, rfl, fun j hj hjk => ?_⟩⟩
      · have hi := idx_atO hk2 hno e.symm
        rw [plc, if_pos (by omega), hi] at hp
        exact hp
      · by_cases hjk2 : j = k
        · subst hjk2; rw [e]; exact fun z => by cases z
        · exact hno j hj (by omega)
  · subst ha3
    refine ⟨fun n y' x => y' = y ∧ ∃ k, x = nI k ∧ k ≤ xs.length ∧ n = xs.length - k ∧ ∀ j (hj : j < xs.length), j < k → some a3 ≠ xs[j], ⟨_, rfl, 0, rfl, Nat.zero_le _, rfl, fun j _ h => absurd h (Nat.not_lt_zero _)⟩, ?_⟩
    rintro n y' x ⟨rfl, k, rfl, hk, rfl, hno⟩
    refine ⟨fun hge => ?_, fun hlt => ?_⟩
    · have : k = xs.length := by
        have := (nI_leI (by omega) (by omega)).mp hge
        omega
      rw [plc_no (fun j hj => hno j hj (by omega))] at hp
      exact hp
    · have hk2 : k < xs.length := by
        rcases Nat.lt_or_ge k xs.length with h | h
        · exact h
        · exact absurd (nI_le h (by omega)) hlt
      refine ⟨arr, rfl, cap, g, hg1, vp_inN (by omega) (by omega), ?_⟩
      rw [nI_clamp (by omega), hg2 k hk2]
      refine ⟨fun b y'' => y'' = y' ∧ b = decide (some a3 = xs[k]), ?_, ?_⟩
      · rintro b y'' ⟨rfl, rfl⟩
        refine ⟨fun hb => ⟨xs.length - (k + 1), by omega, rfl, k + 1, by rw [nI_add], by omega, rfl, fun j hj hjk => ?_⟩, fun hb => ?_⟩
        · by_cases hjk2 : j = k
          · subst hjk2; exact of_decide_eq_false hb
          · exact hno j hj (by omega)
        · have hi := idx_atO hk2 hno (of_decide_eq_true hb)
          rw [plc, if_pos (by omega), hi] at hp
          exact hp
      · rcases hr a3 rfl with ⟨fs, hf⟩ | ⟨fs, hf⟩
        · exact Or.inr (Or.inl ⟨⟨fs, hf⟩, rfl, rfl⟩)
        · exact Or.inr (Or.inr ⟨⟨fs, hf⟩, rfl, rfl⟩)
theorem ls_clear {G : GP} {y : HS} {a arr cap : Nat} {xs : List (Option Nat)} {post : HS → Prop} (hw : WF G y) (h : Lst G y a arr cap xs) (hp : ∀ y' : HS, Lp G y y' a arr [] → post y') : wp_J2_clear G post y a := by
  have hle := h.le
  obtain ⟨md, h1⟩ := h.1
  have h2 := h.2.1
  refine ⟨_, ⟨_, h1, rfl⟩, _, h1, by simp, fun y2 hy2 => ?_⟩
  obtain ⟨h4, hw2, hc2, hf2, hz2, hL2⟩ := ls_mod hw h h1 hy2
  clear hy2
  refine ⟨_, ⟨_, h4, rfl⟩, _, ⟨_, h4, rfl⟩, _, h4, by simp, fun y6 hy6 => ?_⟩
  have h6 : y6.1 a = some (ob 18 [.int (md + nI 1), va_rf (some arr), .int (nI 0)]) := by rw [hy6, hput_at]; rfl
  have hw6 : WF G y6 := by rw [hy6]; exact hw2.put h4
  have hc6 : Cls y y6 := by rw [hy6]; exact hc2.tr (Cls.put h4)
  have hf6 : Fr y y6 a arr := by rw [hy6]; exact hf2.tr Fr.put (by omega) (Or.inl rfl)
  have hz6 : y6.2 = y.2 := by rw [hy6]; exact hz2
  rcases hL2.2.2 with ⟨e1, e2, e3⟩ | ⟨g, e1, e2, e3, e4, e5⟩
  · subst e3
    refine ⟨fun n y' x => y' = y6 ∧ x = nI 0, ⟨0, rfl, rfl⟩, ?_⟩
    rintro n y' x ⟨rfl, rfl⟩
    refine ⟨fun _ => hp _ ⟨arr, cap, hw6, ⟨⟨_, h6⟩, by simp, Or.inl ⟨e1, e2, rfl⟩⟩, hf6, Or.inl rfl, by omega, hc6⟩, fun hh => absurd (by decide) hh⟩
  · have hne : a ≠ arr := fun hh => by rw [← hh, h4] at e1; exact ob_ne_ar (Option.some.inj e1)
    refine ⟨fun n y' x => ∃ k, x = nI k ∧ k ≤ xs.length ∧ n = xs.length - k ∧ WF G y' ∧ y'.1 a = some (ob 18 [.int (md + nI 1), va_rf (some arr), .int (nI 0)]) ∧ (∃ g', y'.1 arr = some (ar 6 cap g')) ∧ Fr y y' a arr ∧ y'.2 = y.2 ∧ Cls y y', ⟨_, 0, rfl, Nat.zero_le _, rfl, hw6, h6, ⟨g, ?_⟩, hf6, hz6, hc6⟩, ?_⟩
    · rw [hy6, hput_ne (Ne.symm hne)]; exact e1
    rintro n y' x ⟨k, rfl, hk, rfl, k1, k2, ⟨g', k3⟩, k4, k5, k6⟩
    refine ⟨fun _ => hp _ ⟨arr, cap, k1, ⟨⟨_, k2⟩, by simp, Or.inr ⟨g', k3, Nat.zero_le _, e3, e4, fun i hi => absurd hi (Nat.not_lt_zero _)⟩⟩, k4, Or.inl rfl, by omega, k6⟩, fun hlt => ?_⟩
    have hk2 : k < xs.length := by
      rcases Nat.lt_or_ge k xs.length with h | h
      · exact h
      · exact absurd (nI_le h (by omega)) hlt
    refine ⟨arr, rfl, cap, g', k3, vp_inN (by omega) (by omega), okO_none, fun y18 hy18 => ⟨xs.length - (k + 1), by omega, k + 1, by rw [nI_add], by omega, rfl, ?_, ?_, ⟨va_up g' (nI k).toNatClampNeg none, by rw [hy18, hput_at]⟩, ?_, ?_, ?_⟩⟩
    · rw [hy18]; exact k1.put k3
    · rw [hy18, hput_ne hne]; exact k2
    · intro b b1 b2 b3
      rw [hy18, hput_ne b2]; exact k4 b b1 b2 b3
    · rw [hy18]; exact k5
    · rw [hy18]; exact k6.tr (Cls.putA k3)
/-- a list that was just made -/
theorem ls_init {G : GP} {y : HS} {a : Nat} {v0 v1 : Value} {post : HS → Prop} (hw : WF G y) (h : y.1 a = some (ob 18 [v0, v1, .int 0])) (hp : ∀ y' : HS, WF G y' → Lst G y' a (gE G 0) 0 [] → (∀ b, b ≠ a → y'.1 b = y.1 b) → y'.2 = y.2 → Cls y y' → post y') : wp_J2_init G post y a := by
  refine ⟨_, h, by simp, fun y1 hy1 => ?_⟩
  have h2 : y1.1 a = some (ob 18 [.int (nI 0), v1, .int 0]) := by rw [hy1, hput_at]; rfl
  refine ⟨_, h2, by simp, fun y2 hy2 => hp y2 ?_ ⟨⟨nI 0, ?_⟩, by simp, Or.inl ⟨rfl, rfl, rfl⟩⟩ ?_ ?_ ?_⟩
  · rw [hy2]; exact WF.put (by rw [hy1]; exact hw.put h) h2
  · rw [hy2, hput_at]; rfl
  · intro b hb; rw [hy2, hput_ne hb, hy1, hput_ne hb]
  · rw [hy2, hy1]; rfl
  · rw [hy2]; exact Cls.tr (by rw [hy1]; exact Cls.put h) (Cls.put h2)
