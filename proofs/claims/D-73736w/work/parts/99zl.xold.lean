/-! The old heap and the new edition together -/
set_option maxRecDepth 100000
def jD (n0 : Nat) (D D' : LM) : LM := fun l => if l < n0 then D l else D' l
def jO (n0 : Nat) (O : Nat → Nat × Nat) : Nat → Nat × Nat := fun l => if l < n0 then O l else (0, 0)
theorem jD_lt {n0 l : Nat} {D D' : LM} (h : l < n0) : jD n0 D D' l = D l := if_pos h
theorem jD_ge {n0 l : Nat} {D D' : LM} (h : n0 ≤ l) : jD n0 D D' l = D' l := if_neg (by omega)
theorem jO_lt {n0 l : Nat} {O : Nat → Nat × Nat} (h : l < n0) : jO n0 O l = O l := if_pos h
theorem jO_ge {n0 l : Nat} {O : Nat → Nat × Nat} (h : n0 ≤ l) : jO n0 O l = (0, 0) := if_neg (by omega)
theorem EX.up {G : GP} {y : HS} {D Dl Dl' : LM} {e : Nat} {E : Ed} {g : EG} (h : EX G y D Dl e E g) (hd : ∀ l xs, Dl l = some xs → Dl' l = some xs) : EX G y D Dl' e E g := by
  obtain ⟨⟨c1, ⟨xs, a1, a2⟩, ⟨ys, b1, b2⟩, c3⟩, ⟨t1, t2⟩, h3, h4, h5, h6, h7, h8⟩ := h
  refine ⟨⟨c1, ⟨xs, hd _ _ a1, a2⟩, ⟨ys, hd _ _ b1, All2.imp b2 (fun _ _ z => z.pk (PKw.rf y) hd)⟩, c3⟩, ⟨fun d r i z => (t1 d r i z).pk (PKw.rf y) hd (fun _ _ z => z) (fun _ _ _ z => z), t2⟩, hd _ _ h3, All2.imp h4 (fun q c z => ?_), h5, hd _ _ h6, hd _ _ h7, h8⟩
  obtain ⟨l, la, ll, tr, nm, z1, z2, z3⟩ := z
  exact ⟨l, la, ll, tr, nm, z1, z2.pk (PKw.rf y) hd, z3⟩
/-- what a list's array is -/
theorem V.arr {G : GP} {y : HS} {D : LM} {l q : Nat} {xs : List (Option Nat)} {fs : List Value} (h : V G y D) (hd : D l = some xs) (hf : y.1 l = some (ob 18 fs)) (hq : fs[1]? = some (va_rf (some q))) : q = gE G 0 ∨ q < y.2 := by
  obtain ⟨hw, A, C, h1, -⟩ := h
  obtain ⟨⟨⟨md, c1⟩, -, c3⟩, -⟩ := h1 l xs hd
  rw [c1] at hf
  obtain ⟨-, rfl⟩ := ob_inj.mp (Option.some.inj hf)
  have e : A l = q := Option.some.inj (va_rf_inj.mp (Option.some.inj hq))
  rcases c3 with ⟨z1, -⟩ | ⟨g', z1, -⟩
  · exact Or.inl (e.symm.trans z1)
  · rw [e] at z1
    exact Or.inr (hw.lt z1)
theorem V.join {G : GP} {y y' : HS} {D D' : LM} (h : V G y D) (h' : V2 G y.2 y' D') (hf : ∀ b, b < y.2 → y'.1 b = y.1 b) : V G y' (jD y.2 D D') := by
  obtain ⟨⟨hw', A', C', h1', h2'⟩, hN⟩ := h'
  obtain ⟨hw, A, C, h1, h2⟩ := h
  have hk : ∀ b x, y.1 b = some x → y'.1 b = some x := fun b x hb => (hf b (hw.lt hb)).trans hb
  have hcl : Cls y y' := fun b c fs hb => ⟨fs, hk b _ hb⟩
  have aold : ∀ a xs, D a = some xs → A a = gE G 0 ∨ A a < y.2 := fun a xs hd => by
    obtain ⟨⟨-, -, c3⟩, -⟩ := h1 a xs hd
    rcases c3 with ⟨z1, -⟩ | ⟨g', z1, -⟩
    · exact Or.inl z1
    · exact Or.inr (hw.lt z1)
  have anew : ∀ a xs, D' a = some xs → A' a = gE G 0 ∨ y.2 ≤ A' a := fun a xs hd => by
    obtain ⟨⟨⟨md, c1⟩, -, -⟩, -⟩ := h1' a xs hd
    rcases (hN a xs hd).2 _ _ c1 rfl with z | z
    · exact Or.inr z
    · exact Or.inl z
  refine ⟨hw', fun a => if a < y.2 then A a else A' a, fun a => if a < y.2 then C a else C' a, fun a xs hd => ?_, fun a b xs ys ha hb he => ?_⟩
  · by_cases ha : a < y.2
    · rw [jD_lt ha] at hd
      simp only [if_pos ha]
      obtain ⟨⟨⟨md, c1⟩, c2, c3⟩, c4⟩ := h1 a xs hd
      refine ⟨⟨⟨md, hk _ _ c1⟩, c2, ?_⟩, fun x hx => (c4 x hx).cls hcl⟩
      rcases c3 with c3 | ⟨g', z1, z2⟩
      · exact Or.inl c3
      · exact Or.inr ⟨g', hk _ _ z1, z2⟩
    · rw [jD_ge (by omega)] at hd
      simp only [if_neg ha]
      exact h1' a xs hd
  · by_cases ha1 : a < y.2
    · rw [jD_lt ha1] at ha
      simp only [if_pos ha1] at he ⊢
      by_cases hb1 : b < y.2
      · rw [jD_lt hb1] at hb
        simp only [if_pos hb1] at he
        exact h2 a b xs ys ha hb he
      · rw [jD_ge (by omega)] at hb
        simp only [if_neg hb1] at he
        rcases aold a xs ha with z | z
        · exact Or.inr z
        · rcases anew b ys hb with w | w
          · exact Or.inr (he.trans w)
          · omega
    · rw [jD_ge (by omega)] at ha
      simp only [if_neg ha1] at he ⊢
      by_cases hb1 : b < y.2
      · rw [jD_lt hb1] at hb
        simp only [if_pos hb1] at he
        rcases anew a xs ha with z | z
        · exact Or.inr z
        · rcases aold b ys hb with w | w
          · exact Or.inr (he.trans w)
          · omega
      · rw [jD_ge (by omega)] at hb
        simp only [if_neg hb1] at he
        exact h2' a b xs ys ha hb he
theorem KF.old {G : GP} {y y' : HS} {D D' : LM} (h : V G y D) (h' : V2 G y.2 y' D') (hf : ∀ b, b < y.2 → y'.1 b = y.1 b) : KF y D y' (jD y.2 D D') := fun q n g hx => by
  have hq := h.1.lt hx.1
  refine ⟨(hf q hq).trans hx.1, fun a xs hd fs hfs hz => ?_, ?_⟩
  · by_cases ha : a < y.2
    · rw [jD_lt ha] at hd
      rw [hf a ha] at hfs
      exact hx.2.1 a xs hd fs hfs hz
    · rw [jD_ge (by omega)] at hd
      rcases (h'.2 a xs hd).2 fs q hfs hz with z | z
      · omega
      · exact h.1.ne0 hx.1 z
  · obtain ⟨l, xs, z1, z2⟩ := hx.2.2
    exact ⟨l, xs, by rw [jD_lt (h.lt z1)]; exact z1, z2⟩
theorem KF.young {G : GP} {y y' : HS} {D D' : LM} (h : V G y D) (h' : V2 G y.2 y' D') (hf : ∀ b, b < y.2 → y'.1 b = y.1 b) : KF y' D' y' (jD y.2 D D') := fun q n g hx => by
  obtain ⟨l, ls, z1, z2⟩ := hx.2.2
  have hl := (h'.2 l ls z1).1
  refine ⟨hx.1, fun a xs hd fs hfs hz => ?_, l, ls, by rw [jD_ge hl]; exact z1, z2⟩
  by_cases ha : a < y.2
  · rw [jD_lt ha] at hd
    rw [hf a ha] at hfs
    rcases h.arr hd hfs hz with z | z
    · exact h'.1.1.ne0 hx.1 z
    · omega
  · rw [jD_ge (by omega)] at hd
    exact hx.2.1 a xs hd fs hfs hz
theorem De_join {n0 : Nat} {O : Nat → Nat × Nat} {D D' : LM} (hl : ∀ l xs, D l = some xs → l < n0) : ∀ l xs, De O D l = some xs → De (jO n0 O) (jD n0 D D') l = some xs := fun l xs h => by
  obtain ⟨h1, h2⟩ := De.sub h
  have hlt := hl l xs h1
  unfold De
  rw [jO_lt hlt, h2, if_pos rfl, jD_lt hlt]
  exact h1
theorem De_new {n0 : Nat} {O : Nat → Nat × Nat} {D D' : LM} (hl : ∀ l xs, D' l = some xs → n0 ≤ l) : ∀ l xs, D' l = some xs → De (jO n0 O) (jD n0 D D') l = some xs := fun l xs h => by
  have hge := hl l xs h
  unfold De
  rw [jO_ge hge, if_pos rfl, jD_ge hge]
  exact h
/-- the component with the lists of the new edition -/
theorem XRg.join {G : GP} {y y' : HS} {X e : Nat} {M : MS} {g : XG} {D' : LM} {E : Ed} {g' : EG} (h : XRg G y X M g) (h' : V2 G y.2 y' D') (hf : ∀ b, b < y.2 → y'.1 b = y.1 b) (hE : EX G y' D' D' e E g') : XRg G y' X M (jD y.2 (xD g) D', jO y.2 (xO g), g.2.2) ∧ EX G y' (jD y.2 (xD g) D') (De (jO y.2 (xO g)) (jD y.2 (xD g) D')) e E g' := by
  obtain ⟨h1, ⟨c1, c2, c3⟩, ⟨s1, s2, s3, s4, s5, s6⟩, h4, h5, ⟨v0, v1, c0, t0, k0, w0, lf0, wy0, h6⟩, ⟨v0', v1', c0', t0', k0', w0', lf0', wy0', h7⟩, h8⟩ := h
  have hk : ∀ b x, y.1 b = some x → y'.1 b = some x := fun b x hb => (hf b (h1.1.lt hb)).trans hb
  have kb : Kb y y' := fun b x hb _ => hk b x hb
  have kc : ∀ c, Kc y y' c := fun c b fs hb => hk b _ hb
  have kf := KF.old h1 h' hf
  have dj := De_join (O := xO g) (D' := D') (fun l xs hd => h1.lt hd)
  refine ⟨⟨h1.join h' hf, ⟨hk _ _ c1, hk _ _ c2, c3⟩, ⟨?_, ?_, s3, s4, s5, fun k a b => ?_⟩, (h4.kb kb ((hk _ _ h4.1.1).trans h4.1.1.symm) kf).up dj, ?_, ⟨v0, v1, c0, t0, k0, w0, lf0, wy0, hk _ _ h6⟩, ⟨v0', v1', c0', t0', k0', w0', lf0', wy0', hk _ _ h7⟩, h8⟩, ?_⟩
  · show jD y.2 (xD g) D' (xLs g) = _
    rw [jD_lt (h1.lt s1)]; exact s1
  · show jO y.2 (xO g) (xLs g) = _
    rw [jO_lt (h1.lt s1)]; exact s2
  · obtain ⟨z1, z2, z3, z4⟩ := s6 k a b
    obtain ⟨-, ⟨xs1, y1, -⟩, ⟨xs2, y2, -⟩, -⟩ := id z1
    have l1 := h1.lt y1
    have l2 := h1.lt y2
    refine ⟨z1.kb kb (kc 17) (jD_lt l1) (jD_lt l2), ?_, ?_, z4⟩
    · show jO y.2 (xO g) _ = _
      rw [jO_lt l1]; exact z2
    · show jO y.2 (xO g) _ = _
      rw [jO_lt l2]; exact z3
  · rcases h5 with h5 | ⟨K', e2, g2, z1, z2, z3⟩
    · exact Or.inl h5
    · exact Or.inr ⟨K', e2, g2, z1, z2, (z3.kb kb ((hk _ _ z3.1.1).trans z3.1.1.symm) kf).up dj⟩
  · exact (hE.kb (fun b x hb _ => hb) rfl (KF.young h1 h' hf)).up (De_new (fun l xs hd => (h'.2 l xs hd).1))
/-- all is kept -/
theorem XRg.fr {G : GP} {y y' : HS} {X : Nat} {M : MS} {g : XG} (h : XRg G y X M g) (hw : WF G y') (hf : ∀ b, b < y.2 → y'.1 b = y.1 b) : XRg G y' X M g := by
  have h1 := h.1
  have hk : ∀ b x, y.1 b = some x → y'.1 b = some x := fun b x hb => (hf b (h1.1.lt hb)).trans hb
  exact h.new (h1.step hw (fun b x hb _ => hk b x hb) (fun b c fs hb => ⟨fs, hk b _ hb⟩)) (fun b x hb _ => hk b x hb) (KF.step (fun b x hb _ => hk b x hb) (fun a xs hd => h1.cell hd))
