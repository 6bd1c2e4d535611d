/-! All lists at once: D tells what the list at an address holds -/
set_option maxRecDepth 100000
abbrev LM : Type := Nat → Option (List (Option Nat))
def V (G : GP) (y : HS) (D : LM) : Prop := WF G y ∧ ∃ A C : Nat → Nat, (∀ a xs, D a = some xs → Lst G y a (A a) (C a) xs ∧ ∀ x ∈ xs, okO G y x) ∧ ∀ a b xs ys, D a = some xs → D b = some ys → A a = A b → a = b ∨ A a = gE G 0
theorem V.wf {G : GP} {y : HS} {D : LM} (h : V G y D) : WF G y := h.1
theorem V.cell {G : GP} {y : HS} {D : LM} {a : Nat} {xs : List (Option Nat)} (h : V G y D) (hd : D a = some xs) : ∃ fs, y.1 a = some (ob 18 fs) := by
  obtain ⟨-, A, C, h1, -⟩ := h
  obtain ⟨⟨⟨md, h2⟩, -⟩, -⟩ := h1 a xs hd
  exact ⟨_, h2⟩
theorem V.lt {G : GP} {y : HS} {D : LM} {a : Nat} {xs : List (Option Nat)} (h : V G y D) (hd : D a = some xs) : a < y.2 := by
  obtain ⟨fs, h1⟩ := h.cell hd
  exact h.1.lt h1
theorem V.len {G : GP} {y : HS} {D : LM} {a : Nat} {xs : List (Option Nat)} (h : V G y D) (hd : D a = some xs) : xs.length < 1000 := by
  obtain ⟨-, A, C, h1, -⟩ := h
  exact (h1 a xs hd).1.2.1
theorem V.ok {G : GP} {y : HS} {D : LM} {a : Nat} {xs : List (Option Nat)} (h : V G y D) (hd : D a = some xs) : ∀ x ∈ xs, okO G y x := by
  obtain ⟨-, A, C, h1, -⟩ := h
  exact (h1 a xs hd).2
/-- an array of Objects that is no list's -/
def FX (y : HS) (D : LM) (q n : Nat) (g : Nat → Option Nat) : Prop := y.1 q = some (ar 6 n g) ∧ (∀ a xs, D a = some xs → ∀ fs, y.1 a = some (ob 18 fs) → fs[1]? ≠ some (va_rf (some q))) ∧ ∃ l xs, D l = some xs ∧ l ≤ q
theorem up_dom {D : LM} {a q : Nat} {zs : List (Option Nat)} (h : ∃ l xs, D l = some xs ∧ l ≤ q) : ∃ l xs, va_up D a (some zs) l = some xs ∧ l ≤ q := by
  obtain ⟨l, xs, h1, h2⟩ := h
  by_cases e : l = a
  · exact ⟨l, zs, by simp [va_up, e], h2⟩
  · exact ⟨l, xs, by simp [va_up, e, h1], h2⟩
/-- such arrays stay -/
def KF (y : HS) (D : LM) (y' : HS) (D' : LM) : Prop := ∀ q n g, FX y D q n g → FX y' D' q n g
theorem KF.rf (y : HS) (D : LM) : KF y D y D := fun _ _ _ h => h
theorem KF.tr {y1 y2 y3 : HS} {D1 D2 D3 : LM} (h : KF y1 D1 y2 D2) (k : KF y2 D2 y3 D3) : KF y1 D1 y3 D3 := fun q n g z => k q n g (h q n g z)
theorem KF.step {y y' : HS} {D : LM} (hk : ∀ b e, y.1 b = some e → isLs e = true → y'.1 b = some e) (hb : ∀ a xs, D a = some xs → ∃ fs, y.1 a = some (ob 18 fs)) : KF y D y' D := fun q n g h => by
  refine ⟨hk _ _ h.1 rfl, fun a xs hd fs hf => ?_, h.2.2⟩
  obtain ⟨fs0, h0⟩ := hb a xs hd
  have := hk _ _ h0 rfl
  rw [this] at hf
  obtain ⟨-, rfl⟩ := ob_inj.mp (Option.some.inj hf)
  exact h.2.1 a xs hd fs0 h0
/-- a list operation -/
theorem V.op {G : GP} {y y' : HS} {D : LM} {A C : Nat → Nat} {a : Nat} {xs xs' : List (Option Nat)} (hw : WF G y) (h1 : ∀ a xs, D a = some xs → Lst G y a (A a) (C a) xs ∧ ∀ x ∈ xs, okO G y x) (h2 : ∀ a b xs ys, D a = some xs → D b = some ys → A a = A b → a = b ∨ A a = gE G 0) (hd : D a = some xs) (hL : Lp G y y' a (A a) xs') (hok : ∀ x ∈ xs', okO G y x) : V G y' (va_up D a (some xs')) ∧ Kp y y' ∧ KF y D y' (va_up D a (some xs')) := by
  obtain ⟨arr', cap', k1, k2, k3, k4, k5, k6⟩ := hL
  obtain ⟨⟨md, c1⟩, c2, c3⟩ := (h1 a xs hd).1
  have hoth : ∀ b e, y.1 b = some e → isLs e = false → b ≠ a ∧ b ≠ A a := by
    intro b e hb he
    constructor
    · intro hh; subst hh
      rw [c1] at hb
      cases Option.some.inj hb
      cases he
    · intro hh; subst hh
      rcases c3 with ⟨z1, z2, z3⟩ | ⟨g, z1, z2⟩
      · exact hw.ne0 hb z1
      · rw [z1] at hb
        cases Option.some.inj hb
        cases he
  have hkp : Kp y y' := fun b e hb he => by
    obtain ⟨n1, n2⟩ := hoth b e hb he
    rw [k3 b n1 n2 (hw.lt hb)]; exact hb
  refine ⟨⟨k1, fun b => if b = a then arr' else A b, fun b => if b = a then cap' else C b, ?_, ?_⟩, hkp, fun q n g hx => ?_⟩
  rotate_left 2
  · have q1 : q ≠ a := fun hh => by subst hh; exact ob_ne_ar (Option.some.inj (c1.symm.trans hx.1))
    have q2 : q ≠ A a := fun hh => hx.2.1 a xs hd _ c1 (by rw [hh]; rfl)
    have q3 := hw.lt hx.1
    refine ⟨by rw [k3 q q1 q2 q3]; exact hx.1, fun b ys hb fs hf => ?_, up_dom hx.2.2⟩
    by_cases hba : b = a
    · subst hba
      obtain ⟨md9, z9⟩ := k2.1
      rw [z9] at hf
      obtain ⟨-, rfl⟩ := ob_inj.mp (Option.some.inj hf)
      intro hh
      have : arr' = q := Option.some.inj (va_rf_inj.mp (Option.some.inj hh))
      rcases k4 with k4 | k4
      · exact q2 (by rw [← this, k4])
      · omega
    · have hb' : D b = some ys := by simpa [va_up, hba] using hb
      obtain ⟨⟨⟨md', d1⟩, -⟩, -⟩ := h1 b ys hb'
      have n2 : b ≠ A a := by
        intro hh
        rcases c3 with ⟨z1, z2, z3⟩ | ⟨g, z1, z2⟩
        · exact hw.ne0 d1 (hh.trans z1)
        · rw [← hh, d1] at z1; exact ob_ne_ar (Option.some.inj z1)
      rw [k3 b hba n2 (hw.lt d1)] at hf
      exact hx.2.1 b ys hb' fs hf
  · intro b ys hb
    by_cases hba : b = a
    · subst hba
      have : xs' = ys := by simpa [va_up] using hb
      subst this
      simp only [if_true]
      exact ⟨k2, fun x hx => (hok x hx).cls k6⟩
    · have hb' : D b = some ys := by simpa [va_up, hba] using hb
      obtain ⟨⟨⟨md', d1⟩, d2, d3⟩, d4⟩ := h1 b ys hb'
      simp only [hba, if_false]
      refine ⟨⟨⟨md', ?_⟩, d2, ?_⟩, fun x hx => (d4 x hx).cls k6⟩
      · have n2 : b ≠ A a := by
          intro hh
          rcases c3 with ⟨z1, z2, z3⟩ | ⟨g, z1, z2⟩
          · exact hw.ne0 d1 (hh.trans z1)
          · rw [← hh, d1] at z1; exact ob_ne_ar (Option.some.inj z1)
        rw [k3 b hba n2 (hw.lt d1)]; exact d1
      · rcases d3 with d3 | ⟨g, e1, e2⟩
        · exact Or.inl d3
        · refine Or.inr ⟨g, ?_, e2⟩
          have n1 : A b ≠ a := fun hh => by rw [hh, c1] at e1; exact ob_ne_ar (Option.some.inj e1)
          have n2 : A b ≠ A a := fun hh => by
            rcases h2 b a ys xs hb' hd hh with z | z
            · exact hba z
            · exact hw.ne0 e1 z
          rw [k3 _ n1 n2 (hw.lt e1)]; exact e1
  · intro b c ys zs hb hc he
    have hlt : ∀ b ys, b ≠ a → D b = some ys → A b < y.2 := by
      intro b ys _ hb
      rcases (h1 b ys hb).1.2.2 with ⟨z1, -⟩ | ⟨g, z1, -⟩
      · rw [z1]; have := hw.2.1; have := hw.2.2; omega
      · exact hw.lt z1
    by_cases hba : b = a
    · by_cases hca : c = a
      · exact Or.inl (hba.trans hca.symm)
      · have hc' : D c = some zs := by simpa [va_up, hca] using hc
        simp only [hba, hca, if_true, if_false] at he ⊢
        rcases k4 with k4 | k4
        · rcases h2 a c xs zs hd hc' (by rw [← k4]; exact he) with z | z
          · exact absurd z.symm hca
          · exact Or.inr (by rw [k4]; exact z)
        · have := hlt c zs hca hc'; omega
    · have hb' : D b = some ys := by simpa [va_up, hba] using hb
      by_cases hca : c = a
      · simp only [hba, hca, if_true, if_false] at he ⊢
        rcases k4 with k4 | k4
        · rcases h2 b a ys xs hb' hd (by rw [← k4]; exact he) with z | z
          · exact absurd z hba
          · exact Or.inr z
        · have := hlt b ys hba hb'; omega
      · have hc' : D c = some zs := by simpa [va_up, hca] using hc
        simp only [hba, hca, if_false] at he ⊢
        exact h2 b c ys zs hb' hc' he
theorem V.size {G : GP} {y : HS} {D : LM} {a : Nat} {xs : List (Option Nat)} {post : Int32 → HS → Prop} (h : V G y D) (hd : D a = some xs) (hp : post (nI xs.length) y) : wp_J2_size G post y a := by
  obtain ⟨-, A, C, h1, -⟩ := h
  exact ls_size (h1 a xs hd).1 hp
theorem V.get {G : GP} {y : HS} {D : LM} {a i : Nat} {xs : List (Option Nat)} {post : Option Nat → HS → Prop} (h : V G y D) (hd : D a = some xs) (hi : i < xs.length) (hp : post xs[i] y) : wp_J2_get G post y a (nI i) := by
  obtain ⟨-, A, C, h1, -⟩ := h
  exact ls_get (h1 a xs hd).1 hi hp
theorem V.add {G : GP} {y : HS} {D : LM} {a B : Nat} {r : Option Nat} {xs : List (Option Nat)} {post : Bool → HS → Prop} (h : V G y D) (hd : D a = some xs) (hn : xs.length < 900) (hr : okO G y r) (hB : gco xs.length ≤ B) (hp : ∀ y', V G y' (va_up D a (some (xs ++ [r]))) → Kp y y' → Cls y y' → y.2 ≤ y'.2 → KF y D y' (va_up D a (some (xs ++ [r]))) → post true y') : wp_J2_add G B post y a r := by
  obtain ⟨hw, A, C, h1, h2⟩ := h
  refine ls_add hw (h1 a xs hd).1 hn hr (h1 a xs hd).2 hB (fun y' hL => ?_)
  have hz := hL
  obtain ⟨-, -, -, -, -, -, z5, z6⟩ := hz
  obtain ⟨v1, v2, v3⟩ := V.op hw h1 h2 hd hL (fun x hx => by
    rcases List.mem_append.mp hx with hx | hx
    · exact (h1 a xs hd).2 x hx
    · rw [List.mem_singleton.mp hx]; exact hr)
  exact hp y' v1 v2 z6 z5 v3
theorem V.insert {G : GP} {y : HS} {D : LM} {a B i : Nat} {r : Option Nat} {xs : List (Option Nat)} {post : HS → Prop} (h : V G y D) (hd : D a = some xs) (hi : i ≤ xs.length) (hn : xs.length < 900) (hr : okO G y r) (hB : gco xs.length ≤ B) (hp : ∀ y', V G y' (va_up D a (some (xs.insertIdx i r))) → Kp y y' → Cls y y' → y.2 ≤ y'.2 → KF y D y' (va_up D a (some (xs.insertIdx i r))) → post y') : wp_J2_add_3 G B post y a (nI i) r := by
  obtain ⟨hw, A, C, h1, h2⟩ := h
  refine ls_insert hw (h1 a xs hd).1 hi hn hr (h1 a xs hd).2 hB (fun y' hL => ?_)
  have hz := hL
  obtain ⟨-, -, -, -, -, -, z5, z6⟩ := hz
  obtain ⟨v1, v2, v3⟩ := V.op hw h1 h2 hd hL (fun x hx => by
    rcases (List.mem_insertIdx hi).mp hx with rfl | hx
    · exact hr
    · exact (h1 a xs hd).2 x hx)
  exact hp y' v1 v2 z6 z5 v3
theorem V.remove {G : GP} {y : HS} {D : LM} {a : Nat} {xs : List (Option Nat)} {vs : List Int32} {r : Option Nat} {v : Int32} {post : Bool → HS → Prop} (h : V G y D) (hd : D a = some xs) (hv : BX G y xs vs) (hr : bx G y r v) (h0 : v ∉ vs → post false y) (hp : ∀ y', v ∈ vs → vs.idxOf v < xs.length → V G y' (va_up D a (some (xs.eraseIdx (vs.idxOf v)))) → Kp y y' → Cls y y' → y.2 ≤ y'.2 → KF y D y' (va_up D a (some (xs.eraseIdx (vs.idxOf v)))) → post true y') : wp_J2_remove G post y a r := by
  obtain ⟨hw, A, C, h1, h2⟩ := h
  refine ls_remove hw (h1 a xs hd).1 hv hr h0 (fun y' hm hlt hL => ?_)
  have hz := hL
  obtain ⟨-, -, -, -, -, -, z5, z6⟩ := hz
  obtain ⟨v1, v2, v3⟩ := V.op hw h1 h2 hd hL (fun x hx => (h1 a xs hd).2 x (List.mem_of_mem_eraseIdx hx))
  exact hp y' hm hlt v1 v2 z6 z5 v3
theorem V.clear {G : GP} {y : HS} {D : LM} {a : Nat} {xs : List (Option Nat)} {post : HS → Prop} (h : V G y D) (hd : D a = some xs) (hp : ∀ y', V G y' (va_up D a (some [])) → Kp y y' → Cls y y' → y.2 ≤ y'.2 → KF y D y' (va_up D a (some [])) → post y') : wp_J2_clear G post y a := by
  obtain ⟨hw, A, C, h1, h2⟩ := h
  refine ls_clear hw (h1 a xs hd).1 (fun y' hL => ?_)
  have hz := hL
  obtain ⟨-, -, -, -, -, -, z5, z6⟩ := hz
  obtain ⟨v1, v2, v3⟩ := V.op hw h1 h2 hd hL (fun x hx => by cases hx)
  exact hp y' v1 v2 z6 z5 v3
theorem V.contains {G : GP} {y : HS} {D : LM} {a : Nat} {xs : List (Option Nat)} {vs : List Int32} {r : Option Nat} {v : Int32} {post : Bool → HS → Prop} (h : V G y D) (hd : D a = some xs) (hv : BX G y xs vs) (hr : bx G y r v) (hp : post (decide (v ∈ vs)) y) : wp_J2_contains G post y a r := by
  obtain ⟨-, A, C, h1, -⟩ := h
  exact ls_contains (h1 a xs hd).1 hv hr hp
theorem V.indexOf {G : GP} {y : HS} {D : LM} {a : Nat} {xs : List (Option Nat)} {r : Option Nat} {post : Int32 → HS → Prop} (h : V G y D) (hd : D a = some xs) (hr : ∀ q, r = some q → (∃ fs, rd G y q (ob 11 fs)) ∨ (∃ fs, rd G y q (ob 7 fs))) (hp : post (plc xs r) y) : wp_J2_indexOf G post y a r := by
  obtain ⟨-, A, C, h1, -⟩ := h
  exact ls_indexOf (h1 a xs hd).1 hr hp
/-- a step that leaves the lists alone -/
theorem V.step {G : GP} {y y' : HS} {D : LM} (h : V G y D) (hw : WF G y') (hk : ∀ b e, y.1 b = some e → isLs e = true → y'.1 b = some e) (hc : Cls y y') : V G y' D := by
  obtain ⟨-, A, C, h1, h2⟩ := h
  refine ⟨hw, A, C, fun a xs hd => ?_, h2⟩
  obtain ⟨⟨⟨md, c1⟩, c2, c3⟩, c4⟩ := h1 a xs hd
  refine ⟨⟨⟨md, hk _ _ c1 rfl⟩, c2, ?_⟩, fun x hx => (c4 x hx).cls hc⟩
  rcases c3 with c3 | ⟨g, e1, e2⟩
  · exact Or.inl c3
  · exact Or.inr ⟨g, hk _ _ e1 rfl, e2⟩
theorem V.put {G : GP} {y : HS} {D : LM} {a c : Nat} {fs fs' : List Value} (h : V G y D) (ha : y.1 a = some (ob c fs)) (hc : c ≠ 18) : V G (hput y a (ob c fs')) D := by
  refine h.step (h.1.put ha) (fun b e hb he => ?_) (Cls.put ha)
  have : b ≠ a := fun hh => by
    subst hh
    rw [ha] at hb
    cases Option.some.inj hb
    simp [isLs, ob, hc] at he
  rw [hput_ne this]; exact hb
theorem V.putA {G : GP} {y : HS} {D : LM} {a : Nat} {e0 e1 : HE} (h : V G y D) (ha : y.1 a = some e0) (h0 : isLs e0 = false) (hn : ∀ c fs, e0 ≠ ob c fs) : V G (hput y a e1) D := by
  refine h.step (h.1.put ha) (fun b e hb he => ?_) (fun v c fs hv => ⟨fs, ?_⟩)
  · have : b ≠ a := fun hh => by
      subst hh
      rw [ha] at hb
      cases Option.some.inj hb
      rw [h0] at he; cases he
    rw [hput_ne this]; exact hb
  · have : v ≠ a := fun hh => by
      subst hh
      rw [ha] at hv
      exact hn c fs (Option.some.inj hv)
    rw [hput_ne this]; exact hv
theorem V.new {G : GP} {y : HS} {D : LM} {e : HE} (h : V G y D) : V G (hnew y e) D :=
  h.step h.1.new (fun b e' hb _ => by rw [hnew_ne (Nat.ne_of_lt (h.1.lt hb))]; exact hb) (Cls.new h.1)
theorem V.fresh {G : GP} {y : HS} {D : LM} (h : V G y D) : D y.2 = none := by
  cases hd : D y.2 with
  | none => rfl
  | some xs => exact absurd (h.lt hd) (Nat.lt_irrefl _)
/-- a list that was just made -/
theorem V.init2 {G : GP} {y : HS} {D : LM} {a : Nat} {v0 v1 : Value} {post : HS → Prop} (h : V G y D) (hd : D a = none) (ha : y.1 a = some (ob 18 [v0, v1, .int 0])) (hp : ∀ y', V G y' (va_up D a (some [])) → (∀ b, b ≠ a → y'.1 b = y.1 b) → y'.2 = y.2 → Kp y y' → Cls y y' → KF y D y' (va_up D a (some [])) → (∃ md, y'.1 a = some (ob 18 [.int md, va_rf (some (gE G 0)), .int 0])) → post y') : wp_J2_init G post y a := by
  obtain ⟨hw, A, C, h1, h2⟩ := h
  refine ls_init hw ha (fun y' k1 k2 k3 k4 k5 => hp y' ⟨k1, fun b => if b = a then gE G 0 else A b, fun b => if b = a then 0 else C b, fun b ys hb => ?_, fun b c ys zs hb hc he => ?_⟩ k3 k4 (fun b e hb he => ?_) k5 (fun q n g hx => ?_) k2.1)
  · by_cases hba : b = a
    · subst hba
      have : [] = ys := by simpa [va_up] using hb
      subst this
      simp only [if_true]
      exact ⟨k2, fun x hx => by cases hx⟩
    · have hb' : D b = some ys := by simpa [va_up, hba] using hb
      obtain ⟨⟨⟨md', d1⟩, d2, d3⟩, d4⟩ := h1 b ys hb'
      simp only [hba, if_false]
      refine ⟨⟨⟨md', by rw [k3 b hba]; exact d1⟩, d2, ?_⟩, fun x hx => (d4 x hx).cls k5⟩
      rcases d3 with d3 | ⟨g, e1, e2⟩
      · exact Or.inl d3
      · exact Or.inr ⟨g, by rw [k3 _ (fun hh => by rw [hh, ha] at e1; exact ob_ne_ar (Option.some.inj e1))]; exact e1, e2⟩
  · by_cases hba : b = a
    · exact Or.inr (by simp [hba])
    · by_cases hca : c = a
      · simp only [hba, hca, if_true, if_false] at he ⊢
        exact Or.inr he
      · have hb' : D b = some ys := by simpa [va_up, hba] using hb
        have hc' : D c = some zs := by simpa [va_up, hca] using hc
        simp only [hba, hca, if_false] at he ⊢
        exact h2 b c ys zs hb' hc' he
  · have : b ≠ a := fun hh => by
      subst hh
      rw [ha] at hb
      cases Option.some.inj hb
      cases he
    rw [k3 b this]; exact hb
  · have q1 : q ≠ a := fun hh => by subst hh; exact ob_ne_ar (Option.some.inj (ha.symm.trans hx.1))
    refine ⟨by rw [k3 q q1]; exact hx.1, fun b ys hb fs hf => ?_, up_dom hx.2.2⟩
    by_cases hba : b = a
    · subst hba
      obtain ⟨md9, z9⟩ := k2.1
      rw [z9] at hf
      obtain ⟨-, rfl⟩ := ob_inj.mp (Option.some.inj hf)
      intro hh
      have : gE G 0 = q := Option.some.inj (va_rf_inj.mp (Option.some.inj hh))
      exact hw.ne0 hx.1 this.symm
    · have hb' : D b = some ys := by simpa [va_up, hba] using hb
      rw [k3 b hba] at hf
      exact hx.2.1 b ys hb' fs hf
theorem V.init {G : GP} {y : HS} {D : LM} {a : Nat} {v0 v1 : Value} {post : HS → Prop} (h : V G y D) (hd : D a = none) (ha : y.1 a = some (ob 18 [v0, v1, .int 0])) (hp : ∀ y', V G y' (va_up D a (some [])) → (∀ b, b ≠ a → y'.1 b = y.1 b) → y'.2 = y.2 → Kp y y' → Cls y y' → KF y D y' (va_up D a (some [])) → post y') : wp_J2_init G post y a := h.init2 hd ha (fun y' a1 a2 a3 a4 a5 a6 _ => hp y' a1 a2 a3 a4 a5 a6)
