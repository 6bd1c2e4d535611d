/-! The component's parse: lists of the new region, what steps keep -/
set_option maxRecDepth 100000
/-- lists that lie above n0, with their arrays -/
def V2 (G : GP) (n0 : Nat) (y : HS) (D : LM) : Prop := V G y D ∧ ∀ a xs, D a = some xs → n0 ≤ a ∧ ∀ fs q, y.1 a = some (ob 18 fs) → fs[1]? = some (va_rf (some q)) → n0 ≤ q ∨ q = gE G 0
theorem V2.add {G : GP} {n0 : Nat} {y : HS} {D : LM} {a B : Nat} {r : Option Nat} {xs : List (Option Nat)} {post : Bool → HS → Prop} (h : V2 G n0 y D) (hn0 : n0 ≤ y.2) (hd : D a = some xs) (hn : xs.length < 900) (hr : okO G y r) (hB : gco xs.length ≤ B) (hp : ∀ y', V2 G n0 y' (va_up D a (some (xs ++ [r]))) → Kp y y' → Cls y y' → y.2 ≤ y'.2 → KF y D y' (va_up D a (some (xs ++ [r]))) → (∀ b, b < n0 → y'.1 b = y.1 b) → post true y') : wp_J2_add G B post y a r := by
  obtain ⟨⟨hw, A, C, h1, h2⟩, hN⟩ := h
  refine ls_add hw (h1 a xs hd).1 hn hr (h1 a xs hd).2 hB (fun y' hL => ?_)
  have hz := hL
  obtain ⟨arr', cap', z1, z2, z3, z4, z5, z6⟩ := hz
  obtain ⟨v1, v2, v3⟩ := V.op hw h1 h2 hd hL (fun x hx => by
    rcases List.mem_append.mp hx with hx | hx
    · exact (h1 a xs hd).2 x hx
    · rw [List.mem_singleton.mp hx]; exact hr)
  obtain ⟨⟨md, c1⟩, c2, c3⟩ := (h1 a xs hd).1
  have hA : n0 ≤ A a ∨ A a = gE G 0 := (hN a xs hd).2 _ _ c1 rfl
  refine hp y' ⟨v1, fun b ys hb => ?_⟩ v2 z6 z5 v3 (fun b hb => ?_)
  · by_cases hba : b = a
    · subst hba
      refine ⟨(hN b xs hd).1, fun fs q hf hq => ?_⟩
      obtain ⟨md9, z9⟩ := z2.1
      rw [z9] at hf
      obtain ⟨-, rfl⟩ := ob_inj.mp (Option.some.inj hf)
      have e : arr' = q := Option.some.inj (va_rf_inj.mp (Option.some.inj hq))
      rcases z4 with z4 | z4
      · rw [← e, z4]; exact hA
      · exact Or.inl (by omega)
    · have hb' : D b = some ys := by simpa [va_up, hba] using hb
      refine ⟨(hN b ys hb').1, fun fs q hf hq => ?_⟩
      obtain ⟨⟨⟨md', d1⟩, -⟩, -⟩ := h1 b ys hb'
      have n2 : b ≠ A a := by
        intro hh
        rcases c3 with ⟨w1, w2, w3⟩ | ⟨g, w1, w2⟩
        · exact hw.ne0 d1 (hh.trans w1)
        · rw [← hh, d1] at w1; exact ob_ne_ar (Option.some.inj w1)
      rw [z3 b hba n2 (hw.lt d1)] at hf
      exact (hN b ys hb').2 fs q hf hq
  · have hna : b ≠ a := fun hh => by have := (hN a xs hd).1; omega
    by_cases hbA : b = A a
    · rcases hA with hA | hA
      · omega
      · have k1 : y.1 b = none := by
          cases e : y.1 b with
          | none => rfl
          | some x => exact absurd (hbA.trans hA) (hw.ne0 e)
        have k2 : y'.1 b = none := by
          cases e : y'.1 b with
          | none => rfl
          | some x => exact absurd (hbA.trans hA) (z1.ne0 e)
        rw [k1, k2]
    · exact z3 b hna hbA (by omega)
theorem V2.init {G : GP} {n0 : Nat} {y : HS} {D : LM} {a : Nat} {v0 v1 : Value} {post : HS → Prop} (h : V2 G n0 y D) (hd : D a = none) (hn0 : n0 ≤ a) (ha : y.1 a = some (ob 18 [v0, v1, .int 0])) (hp : ∀ y', V2 G n0 y' (va_up D a (some [])) → (∀ b, b ≠ a → y'.1 b = y.1 b) → y'.2 = y.2 → Kp y y' → Cls y y' → KF y D y' (va_up D a (some [])) → post y') : wp_J2_init G post y a := by
  refine h.1.init2 hd ha (fun y' b1 b2 b3 b4 b5 b6 b7 => hp y' ⟨b1, fun b ys hb => ?_⟩ b2 b3 b4 b5 b6)
  by_cases hba : b = a
  · subst hba
    refine ⟨hn0, fun fs q hf hq => Or.inr ?_⟩
    obtain ⟨md, z9⟩ := b7
    rw [z9] at hf
    obtain ⟨-, rfl⟩ := ob_inj.mp (Option.some.inj hf)
    exact (Option.some.inj (va_rf_inj.mp (Option.some.inj hq))).symm
  · have hb' : D b = some ys := by simpa [va_up, hba] using hb
    refine ⟨(h.2 b ys hb').1, fun fs q hf hq => ?_⟩
    rw [b2 b hba] at hf
    exact (h.2 b ys hb').2 fs q hf hq
/-- a quiet step: the Reader's fields, a String's hash, new cells -/
def Qs (y y' : HS) : Prop := (∀ b x, y.1 b = some x → y'.1 b = some x ∨ (∃ fs fs', x = ob 4 fs ∧ y'.1 b = some (ob 4 fs')) ∨ ∃ z zz h' zz', x = ob 20 [va_rf z, .int 0, .int 0, .int zz] ∧ y'.1 b = some (ob 20 [va_rf z, .int 0, .int h', .int zz'])) ∧ y.2 ≤ y'.2
theorem Qs.rf (y : HS) : Qs y y := ⟨fun _ _ h => Or.inl h, Nat.le_refl _⟩
theorem Qs.tr {y1 y2 y3 : HS} (h : Qs y1 y2) (k : Qs y2 y3) : Qs y1 y3 := by
  refine ⟨fun b x hb => ?_, Nat.le_trans h.2 k.2⟩
  rcases h.1 b x hb with z | ⟨fs, fs', rfl, z⟩ | ⟨z0, zz, h', zz', rfl, z⟩
  · exact k.1 b x z
  · rcases k.1 b _ z with w | ⟨gs, gs', w1, w2⟩ | ⟨w0, ww, h2, ww2, w1, w2⟩
    · exact Or.inr (Or.inl ⟨fs, fs', rfl, w⟩)
    · exact Or.inr (Or.inl ⟨fs, gs', rfl, w2⟩)
    · exact absurd (ob_inj.mp w1).1 (by decide)
  · rcases k.1 b _ z with w | ⟨gs, gs', w1, w2⟩ | ⟨w0, ww, h2, ww2, w1, w2⟩
    · exact Or.inr (Or.inr ⟨z0, zz, h', zz', rfl, w⟩)
    · exact absurd (ob_inj.mp w1).1 (by decide)
    · have e := (ob_inj.mp w1).2
      have e0 : z0 = w0 := va_rf_inj.mp (List.cons.inj e).1
      subst e0
      exact Or.inr (Or.inr ⟨z0, zz, h2, ww2, rfl, w2⟩)
theorem Qs.frr {y y' : HS} {R : Nat} {fs fs' : List Value} (h : FrR y y' R) {G : GP} (hw : WF G y) (h1 : y.1 R = some (ob 4 fs)) (h2 : y'.1 R = some (ob 4 fs')) : Qs y y' := by
  refine ⟨fun b x hb => ?_, h.2⟩
  by_cases e : b = R
  · subst e
    rw [h1] at hb
    cases hb
    exact Or.inr (Or.inl ⟨fs, fs', rfl, h2⟩)
  · exact Or.inl ((h.1 b (hw.lt hb) e).trans hb)
theorem Qs.new {G : GP} {y : HS} {e : HE} (hw : WF G y) : Qs y (hnew y e) := ⟨fun b x hb => Or.inl (by rw [hnew_ne (Nat.ne_of_lt (hw.lt hb))]; exact hb), Nat.le_succ _⟩
theorem Qs.up {G : GP} {y y' : HS} (hw : WF G y) (h : ∀ a, a < y.2 → y'.1 a = y.1 a) (hn : y.2 ≤ y'.2) : Qs y y' := ⟨fun b x hb => Or.inl ((h b (hw.lt hb)).trans hb), hn⟩
theorem Qs.put4 {y : HS} {R : Nat} {fs fs' : List Value} (h : y.1 R = some (ob 4 fs)) : Qs y (hput y R (ob 4 fs')) := by
  refine ⟨fun b x hb => ?_, Nat.le_refl _⟩
  by_cases e : b = R
  · subst e
    rw [h] at hb
    cases hb
    exact Or.inr (Or.inl ⟨fs, fs', rfl, hput_at _ _ _⟩)
  · exact Or.inl (by rw [hput_ne e]; exact hb)
theorem Qs.cls {y y' : HS} (h : Qs y y') : Cls y y' := fun v c fs hv => by
  rcases h.1 v _ hv with z | ⟨gs, gs', z1, z2⟩ | ⟨z0, zz, h', zz', z1, z2⟩
  · exact ⟨fs, z⟩
  · obtain ⟨rfl, rfl⟩ := ob_inj.mp z1; exact ⟨gs', z2⟩
  · obtain ⟨rfl, rfl⟩ := ob_inj.mp z1; exact ⟨_, z2⟩
theorem Qs.at {y y' : HS} (h : Qs y y') {b : Nat} {x : HE} (hb : y.1 b = some x) (h4 : ∀ fs, x ≠ ob 4 fs) (h20 : ∀ a c d, x ≠ ob 20 [a, c, .int 0, d]) : y'.1 b = some x := by
  rcases h.1 b x hb with z | ⟨gs, gs', z1, z2⟩ | ⟨z0, zz, h', zz', z1, z2⟩
  · exact z
  · exact absurd z1 (h4 _)
  · exact absurd z1 (h20 _ _ _)
theorem ob_ne {c c' : Nat} {fs fs' : List Value} (h : c ≠ c') : ob c fs ≠ ob c' fs' := fun e => h (ob_inj.mp e).1
theorem ai_ne_ob {c t n : Nat} {fs : List Value} {g : Nat → Int32} : ai t n g ≠ ob c fs := fun e => ob_ne_ai e.symm
theorem ar_ne_ob {c t n : Nat} {fs : List Value} {g : Nat → Option Nat} : ar t n g ≠ ob c fs := fun e => ob_ne_ar e.symm
theorem Qs.kO {y y' : HS} (h : Qs y y') {b c : Nat} {fs : List Value} (hb : y.1 b = some (ob c fs)) (h4 : c ≠ 4) (h20 : c ≠ 20) : y'.1 b = some (ob c fs) := h.at hb (fun _ => ob_ne h4) (fun _ _ _ => ob_ne h20)
theorem Qs.kI {y y' : HS} (h : Qs y y') {b t n : Nat} {g : Nat → Int32} (hb : y.1 b = some (ai t n g)) : y'.1 b = some (ai t n g) := h.at hb (fun _ => ai_ne_ob) (fun _ _ _ => ai_ne_ob)
theorem Qs.kR {y y' : HS} (h : Qs y y') {b t n : Nat} {g : Nat → Option Nat} (hb : y.1 b = some (ar t n g)) : y'.1 b = some (ar t n g) := h.at hb (fun _ => ar_ne_ob) (fun _ _ _ => ar_ne_ob)
theorem Qs.ls {y y' : HS} (h : Qs y y') : ∀ b e, y.1 b = some e → isLs e = true → y'.1 b = some e := fun b e hb he => by
  refine h.at hb (fun fs z => ?_) (fun _ _ _ z => ?_) <;> (subst z; cases he)
theorem V2.step {G : GP} {n0 : Nat} {y y' : HS} {D : LM} (hv : V2 G n0 y D) (hw : WF G y') (hk : ∀ b e, y.1 b = some e → isLs e = true → y'.1 b = some e) (hc : Cls y y') : V2 G n0 y' D := by
  refine ⟨hv.1.step hw hk hc, fun a xs hd => ⟨(hv.2 a xs hd).1, fun fs q hf hq => ?_⟩⟩
  obtain ⟨fs0, h0⟩ := hv.1.cell hd
  have h1 := hk _ _ h0 rfl
  rw [h1] at hf
  obtain ⟨-, rfl⟩ := ob_inj.mp (Option.some.inj hf)
  exact (hv.2 a xs hd).2 fs0 q h0 hq
theorem Qs.v2 {G : GP} {n0 : Nat} {y y' : HS} {D : LM} (h : Qs y y') (hv : V2 G n0 y D) (hw : WF G y') : V2 G n0 y' D := hv.step hw h.ls h.cls
theorem Qs.kf {G : GP} {y y' : HS} {D : LM} (h : Qs y y') (hv : V G y D) : KF y D y' D := KF.step h.ls (fun a xs hd => hv.cell hd)
/-- what is built (and has its first field): spans, ranks, partners, leaves, joined, atoms, choices; hashed Strings; bytes and chars -/
def isB (x : HE) : Prop := (∃ c v fs, x = ob c (v :: fs) ∧ 8 ≤ c ∧ c ≤ 14 ∧ c ≠ 11 ∧ v ≠ va_rf none) ∨ (∃ a b h d, x = ob 20 [a, b, .int h, d] ∧ h ≠ 0) ∨ ∃ t n g, x = ai t n g ∧ 3 ≤ t ∧ t ≤ 4
/-- what an edition is written into: itself, its chapters, its names and weights -/
def isC (x : HE) : Prop := (∃ fs, x = ob 1 fs) ∨ (∃ v fs, x = ob 7 (v :: fs) ∧ v ≠ va_rf none) ∨ (∃ n g, x = ar 7 n g) ∨ (∃ n g, x = ai 5 n g) ∨ ∃ fs, x = ob 11 fs
def PKw (y y' : HS) : Prop := ∀ b x, y.1 b = some x → isB x → y'.1 b = some x
def SW (y y' : HS) : Prop := ∀ b z h zz, y.1 b = some (ob 20 [va_rf z, .int 0, .int h, .int zz]) → ∃ h' zz', y'.1 b = some (ob 20 [va_rf z, .int 0, .int h', .int zz'])
def PKs (y y' : HS) : Prop := PKw y y' ∧ (∀ b x, y.1 b = some x → isC x → y'.1 b = some x) ∧ SW y y'
theorem PKw.rf (y : HS) : PKw y y := fun _ _ h _ => h
theorem PKw.tr {y1 y2 y3 : HS} (h : PKw y1 y2) (k : PKw y2 y3) : PKw y1 y3 := fun b x hb hx => k b x (h b x hb hx) hx
theorem SW.tr {y1 y2 y3 : HS} (h : SW y1 y2) (k : SW y2 y3) : SW y1 y3 := fun b z h0 zz hb => by
  obtain ⟨h1, z1, e⟩ := h b z h0 zz hb
  exact k b z h1 z1 e
theorem PKs.rf (y : HS) : PKs y y := ⟨PKw.rf y, fun _ _ h _ => h, fun _ _ h zz hb => ⟨h, zz, hb⟩⟩
theorem PKs.tr {y1 y2 y3 : HS} (h : PKs y1 y2) (k : PKs y2 y3) : PKs y1 y3 := ⟨h.1.tr k.1, fun b x hb hx => k.2.1 b x (h.2.1 b x hb hx) hx, h.2.2.tr k.2.2⟩
theorem isB.kO {c : Nat} {v : Value} {fs : List Value} (h : 8 ≤ c ∧ c ≤ 14 ∧ c ≠ 11) (hv : v ≠ va_rf none) : isB (ob c (v :: fs)) := Or.inl ⟨c, v, fs, rfl, h.1, h.2.1, h.2.2, hv⟩
theorem int_ne {x : Int32} : (Value.int x) ≠ va_rf none := fun e => by cases e
theorem rf_ne {q : Nat} : va_rf (some q) ≠ va_rf none := fun e => by cases va_rf_inj.mp e
theorem isB.kI {t n : Nat} {g : Nat → Int32} (h : 3 ≤ t ∧ t ≤ 4) : isB (ai t n g) := Or.inr (Or.inr ⟨t, n, g, rfl, h⟩)
theorem isB.kS {a b d : Value} {h : Int32} (h0 : h ≠ 0) : isB (ob 20 [a, b, .int h, d]) := Or.inr (Or.inl ⟨a, b, h, d, rfl, h0⟩)
theorem Qs.pks {y y' : HS} (h : Qs y y') : PKs y y' := by
  refine ⟨fun b x hb hx => ?_, fun b x hb hx => ?_, fun b z h0 zz hb => ?_⟩
  · rcases hx with ⟨c, v, fs, rfl, hc1, hc2, hc3, hv⟩ | ⟨a, c, h1, d, rfl, hh⟩ | ⟨t, n, g, rfl, ht⟩
    · exact h.kO hb (by omega) (by omega)
    · refine h.at hb (fun _ => ob_ne (by decide)) (fun a' c' d' e => hh ?_)
      have := (ob_inj.mp e).2
      injection this with _ e1
      injection e1 with _ e2
      injection e2 with e3 _
      injection e3
    · exact h.kI hb
  · rcases hx with ⟨fs, rfl⟩ | ⟨v, fs, rfl, -⟩ | ⟨n, g, rfl⟩ | ⟨n, g, rfl⟩ | ⟨fs, rfl⟩
    · exact h.kO hb (by decide) (by decide)
    · exact h.kO hb (by decide) (by decide)
    · exact h.kR hb
    · exact h.kI hb
    · exact h.kO hb (by decide) (by decide)
  · rcases h.1 b _ hb with z | ⟨gs, gs', z1, z2⟩ | ⟨z0, z3, h', zz', z1, z2⟩
    · exact ⟨h0, zz, z⟩
    · exact absurd (ob_inj.mp z1).1 (by decide)
    · have e := (ob_inj.mp z1).2
      have e0 : z = z0 := va_rf_inj.mp (List.cons.inj e).1
      subst e0
      exact ⟨h', zz', z2⟩
theorem Kp.pks {y y' : HS} (h : Kp y y') : PKs y y' := by
  refine ⟨fun b x hb hx => ?_, fun b x hb hx => ?_, fun b z h0 zz hb => ⟨h0, zz, h b _ hb rfl⟩⟩
  · rcases hx with ⟨c, v, fs, rfl, hc1, hc2, hc3, hv⟩ | ⟨a, c, h1, d, rfl, hh⟩ | ⟨t, n, g, rfl, ht⟩
    · refine h b _ hb ?_
      show (c == 18) = false
      rw [beq_eq_false_iff_ne]; omega
    · exact h b _ hb rfl
    · refine h b _ hb ?_
      show (t == 6) = false
      rw [beq_eq_false_iff_ne]; omega
  · rcases hx with ⟨fs, rfl⟩ | ⟨v, fs, rfl, -⟩ | ⟨n, g, rfl⟩ | ⟨n, g, rfl⟩ | ⟨fs, rfl⟩ <;> exact h b _ hb rfl
theorem spR.pk {y y' : HS} {r : Option Nat} {sp : Sp} (h : spR y r sp) (k : PKw y y') : spR y' r sp := by
  obtain ⟨q, h1, h2⟩ := h
  exact ⟨q, h1, k _ _ h2 (isB.kO (by decide) int_ne)⟩
theorem spsR.pk {y y' : HS} {D D' : LM} {l : Nat} {sps : List Sp} (h : spsR y D l sps) (k : PKw y y') (hd : ∀ l xs, D l = some xs → D' l = some xs) : spsR y' D' l sps := by
  obtain ⟨xs, h1, h2⟩ := h
  exact ⟨xs, hd _ _ h1, All2.imp h2 (fun _ _ z => z.pk k)⟩
theorem rkR.pk {y y' : HS} {r : Option Nat} {x : Rk} (h : rkR y r x) (k : PKw y y') : rkR y' r x := by
  obtain ⟨q, s, h1, h2, h3⟩ := h
  obtain ⟨s', rfl, -⟩ := id h3
  exact ⟨q, _, h1, k _ _ h2 (isB.kO (by decide) rf_ne), h3.pk k⟩
theorem ptR.pk {y y' : HS} {D D' : LM} {r : Option Nat} {p : Pt9} (h : ptR y D r p) (k : PKw y y') (hd : ∀ l xs, D l = some xs → D' l = some xs) : ptR y' D' r p := by
  obtain ⟨q, s, l, h1, h2, h3, h4⟩ := h
  obtain ⟨s', rfl, -⟩ := id h3
  exact ⟨q, _, l, h1, k _ _ h2 (isB.kO (by decide) rf_ne), h3.pk k, h4.pk k hd⟩
theorem byR.pk {G : GP} {y y' : HS} {r : Option Nat} {bs : List Nat} (h : byR G y r bs) (k : PKw y y') : byR G y' r bs := by
  obtain ⟨q, g, h1, h2, h3⟩ := h
  refine ⟨q, g, h1, ?_, h3⟩
  rcases h2 with h2 | h2
  · exact Or.inl (k _ _ h2 (isB.kI (by decide)))
  · exact Or.inr h2
theorem wi_lt (w : Nat) : wi w < 20 := by
  unfold wi
  match w with
  | 0 | 1 | 2 | 3 | 4 | 5 | 6 | 7 | 8 | 9 => decide
  | n + 10 => exact (by decide : 18 < 20)
theorem atR.pk {G : GP} {y y' : HS} {q : Nat} {x : Cn} (h : atR G y q x) (k : PKw y y') : atR G y' q x := by
  obtain ⟨w, sp, sg, nb, h1, ⟨b, h2, h3⟩, h4, h5, h6, h7, h8⟩ := h
  refine ⟨w, sp, sg, nb, k _ _ h1 (isB.kO (by decide) rf_ne), ⟨b, ?_, h3.pk k⟩, h4, h5, h6, fun z => (h7 z).pk k, h8⟩
  rcases h2 with h2 | h2
  · exact Or.inl (k _ _ h2 (isB.kS (whT_ne _ (wi_lt _))))
  · exact Or.inr h2
theorem isCh_mono {cs cs' : List Cn} (hc : ∀ (j : Nat) (x : Cn), cs[j]? = some x → cs'[j]? = some x) : ∀ (rest : List Nat) (w p0 i : Nat), isCh cs w p0 rest i → isCh cs' w p0 rest i := by
  intro rest
  induction rest with
  | nil => intro w p0 i h; exact h
  | cons r rs ih =>
    rintro w p0 i ⟨j, x, h1, h2, h3, h4, h5⟩
    exact ⟨j, x, hc _ _ h1, h2, h3, h4, ih w j i h5⟩
theorem CS.pk {G : GP} {y y' : HS} {D D' : LM} {cs cs' : List Cn} {CR CR' : Nat → Nat → Nat → Prop} {d r i : Nat} (h : CS G y D cs CR d r i) (k : PKw y y') (hd : ∀ l xs, D l = some xs → D' l = some xs) (hc : ∀ (j : Nat) (x : Cn), cs[j]? = some x → cs'[j]? = some x) (hR : ∀ d r i, CR d r i → CR' d r i) : CS G y' D' cs' CR' d r i := by
  rcases h with ⟨x, h1, h2⟩ | ⟨d', l, p, x, h0, h1, h2, h3, h4, h5⟩ | ⟨d', l, w, ps, p0, rest, h0, hw, h1, h2, h3, h4⟩
  · exact Or.inl ⟨x, hc _ _ h1, h2.pk k⟩
  · exact Or.inr (Or.inl ⟨d', l, p, x, h0, k _ _ h1 (isB.kO (by decide) rf_ne), hd _ _ h2, hc _ _ h3, h4, hR _ _ _ h5⟩)
  · exact Or.inr (Or.inr ⟨d', l, w, ps, p0, rest, h0, hw, k _ _ h1 (isB.kO (by decide) rf_ne), hd _ _ h2, All2.imp h3 (fun _ _ z => hR _ _ _ z), isCh_mono hc rest w p0 i h4⟩)
theorem isCh_snoc {cs : List Cn} {w : Nat} : ∀ (rest : List Nat) (p0 c q j : Nat) (k : Cn), isCh cs w p0 rest c → cs[j]? = some k → k.1 = w → ix k.2.1 = c → ix k.2.2.1 = q → isCh cs w p0 (rest ++ [q]) j := by
  intro rest
  induction rest with
  | nil => intro p0 c q j k h h1 h2 h3 h4; exact ⟨j, k, h1, h2, h3.trans (show p0 = c from h).symm, h4, rfl⟩
  | cons r rs ih =>
    rintro p0 c q j k ⟨j0, k0, a1, a2, a3, a4, a5⟩ h1 h2 h3 h4
    exact ⟨j0, k0, a1, a2, a3, a4, ih j0 c q j k a5 h1 h2 h3 h4⟩
/-- arrays that are full, and no list's, stay -/
def KF1 (y : HS) (D : LM) (y' : HS) (D' : LM) : Prop := ∀ q n g, FX y D q n g → g 1 ≠ none → FX y' D' q n g
theorem KF.one {y y' : HS} {D D' : LM} (h : KF y D y' D') : KF1 y D y' D' := fun q n g z _ => h q n g z
theorem KF1.tr {y1 y2 y3 : HS} {D1 D2 D3 : LM} (h : KF1 y1 D1 y2 D2) (k : KF1 y2 D2 y3 D3) : KF1 y1 D1 y3 D3 := fun q n g z w => k q n g (h q n g z w) w
theorem NS.pk {y y' : HS} {D D' : LM} {ns ns' : List Nd} {CR CR' NR NR' : Nat → Nat → Nat → Prop} {d r n : Nat} (h : NS y D ns CR NR d r n) (k : PKw y y') (k11 : ∀ fs, y.1 r = some (ob 11 fs) → y'.1 r = some (ob 11 fs)) (kf : KF1 y D y' D') (hn : ∀ x : Nd, ns[n]? = some x → ns'[n]? = some x) (hC : ∀ d r i, CR d r i → CR' d r i) (hN : ∀ d r i, NR d r i → NR' d r i) : NS y' D' ns' CR' NR' d r n := by
  rcases h with ⟨x, mt, h1, h2, h3⟩ | ⟨d', x, cr, arr, r1, r2, g, h0, h1, h2, h3, h4, h5, h6, h7, h8, h9⟩
  · exact Or.inl ⟨x, mt, hn _ h1, h2, k11 _ h3⟩
  · exact Or.inr ⟨d', x, cr, arr, r1, r2, g, h0, hn _ h1, h2, k _ _ h3 (isB.kO (by decide) rf_ne), kf _ _ _ h4 (by rw [h6]; exact fun z => by cases z), h5, h6, hC _ _ _ h7, hN _ _ _ h8, hN _ _ _ h9⟩
theorem chars.pk {y y' : HS} {q : Nat} {bs : List Nat} (h : chars y q bs) (k : PKw y y') : chars y' q bs := by
  obtain ⟨g, h1, h2⟩ := h
  exact ⟨g, k _ _ h1 (isB.kI (by decide)), h2⟩
/-- objects of these classes are kept, finished or not -/
def KB (y y' : HS) : Prop := ∀ b c fs, 8 ≤ c → c ≤ 14 → y.1 b = some (ob c fs) → y'.1 b = some (ob c fs)
theorem KB.rf (y : HS) : KB y y := fun _ _ _ _ _ h => h
theorem KB.tr {y1 y2 y3 : HS} (h : KB y1 y2) (k : KB y2 y3) : KB y1 y3 := fun b c fs h1 h2 hb => k b c fs h1 h2 (h b c fs h1 h2 hb)
theorem Qs.kB {y y' : HS} (h : Qs y y') : KB y y' := fun b c fs h1 h2 hb => h.kO hb (by omega) (by omega)
theorem Kp.kB {y y' : HS} (h : Kp y y') : KB y y' := fun b c fs h1 h2 hb => h b _ hb (by show (c == 18) = false; rw [beq_eq_false_iff_ne]; omega)
