/-! The component as a whole -/
set_option maxRecDepth 100000
def seenC (y : HS) (a : Nat) : Prop := ∃ (v0 v1 : Value) (c0 t0 k0 w0 : Int32) (lf0 : Option Nat) (wy0 : Int64), y.1 a = some (ob 2 [v0, v1, .int c0, .int t0, .int k0, va_rf lf0, .int w0, .long wy0])
def XS (G : GP) (y : HS) (D : LM) (O : Nat → Nat × Nat) (ls : Nat) (sq : List Nat) (s1 s2 : Nat → Nat) (ss : List St) : Prop := D ls = some (sq.map some) ∧ O ls = (1, 0) ∧ sq.length = ss.length ∧ ss.length ≤ 24 ∧ sq.Nodup ∧ ∀ k (h : k < ss.length) (h2 : k < sq.length), stR G y D sq[k] (s1 sq[k]) (s2 sq[k]) ss[k] ∧ O (s1 sq[k]) = (2, sq[k]) ∧ O (s2 sq[k]) = (3, sq[k]) ∧ stOk ss[k]
def XKp (G : GP) (y : HS) (D : LM) (O : Nat → Nat × Nat) (kq : Option Nat) (K : Option Ed) : Prop := (K = none ∧ kq = none) ∨ ∃ K' e2 g2, K = some K' ∧ kq = some e2 ∧ EX G y D (De O D) e2 K' g2
def XC (y : HS) (X tp ls e : Nat) (kq : Option Nat) (sn ot : Nat) (tape : List Nat) (F : Int32) (gt : Nat → Int32) : Prop := y.1 X = some (ob 0 [va_rf (some tp), .int (nI tape.length), .int F, va_rf (some ls), va_rf (some e), va_rf kq, va_rf (some sn), va_rf (some ot)]) ∧ y.1 tp = some (ai 3 936 gt) ∧ tape.length ≤ 936 ∧ (∀ b ∈ tape, b < 256) ∧ ∀ j (h : j < tape.length), gt j &&& nI 255 = nI tape[j]
/-- the ghosts: lists, labels; tape, list of stays, seen, other, now, its ghosts, kept; the stays' objects and their rows; the tape's bytes -/
abbrev XG : Type := LM × (Nat → Nat × Nat) × (Nat × Nat × Nat × Nat) × (Nat × EG) × Option Nat × (List Nat × (Nat → Nat) × (Nat → Nat)) × (Nat → Int32)
abbrev xD (g : XG) : LM := g.1
abbrev xO (g : XG) : Nat → Nat × Nat := g.2.1
abbrev xTp (g : XG) : Nat := g.2.2.1.1
abbrev xLs (g : XG) : Nat := g.2.2.1.2.1
abbrev xSn (g : XG) : Nat := g.2.2.1.2.2.1
abbrev xOt (g : XG) : Nat := g.2.2.1.2.2.2
abbrev xE (g : XG) : Nat := g.2.2.2.1.1
abbrev xEg (g : XG) : EG := g.2.2.2.1.2
abbrev xKq (g : XG) : Option Nat := g.2.2.2.2.1
abbrev xSq (g : XG) : List Nat := g.2.2.2.2.2.1.1
abbrev xS1 (g : XG) : Nat → Nat := g.2.2.2.2.2.1.2.1
abbrev xS2 (g : XG) : Nat → Nat := g.2.2.2.2.2.1.2.2
abbrev xGt (g : XG) : Nat → Int32 := g.2.2.2.2.2.2
abbrev xDl (g : XG) : LM := De (xO g) (xD g)
def XRg (G : GP) (y : HS) (X : Nat) (M : MS) (g : XG) : Prop := V G y (xD g) ∧ XC y X (xTp g) (xLs g) (xE g) (xKq g) (xSn g) (xOt g) (mT M) (mF M) (xGt g) ∧ XS G y (xD g) (xO g) (xLs g) (xSq g) (xS1 g) (xS2 g) (mS M) ∧ EX G y (xD g) (xDl g) (xE g) (mE M) (xEg g) ∧ XKp G y (xD g) (xO g) (xKq g) (mK M) ∧ seenC y (xSn g) ∧ seenC y (xOt g) ∧ xSn g ≠ xOt g
def XR (G : GP) (y : HS) (X : Nat) (M : MS) : Prop := ∃ g, XRg G y X M g
theorem xDl_sub (g : XG) : ∀ l xs, xDl g l = some xs → xD g l = some xs := fun _ _ h => (De.sub h).1
/-- other lists -/
def setD (g : XG) (D : LM) : XG := (D, g.2)
theorem XKp.kb {G : GP} {y y' : HS} {D D' : LM} {O : Nat → Nat × Nat} {kq : Option Nat} {K : Option Ed} (h : XKp G y D O kq K) (k : Kb y y') (hc : Kc y y' 1) (kf : KF y D y' D') (hD : De O D' = De O D) : XKp G y' D' O kq K := by
  rcases h with h | ⟨K', e2, g2, h1, h2, h3⟩
  · exact Or.inl h
  · refine Or.inr ⟨K', e2, g2, h1, h2, ?_⟩
    rw [hD]
    exact h3.kb k ((hc _ _ h3.1.1).trans h3.1.1.symm) kf
theorem XRg.kp {G : GP} {y y' : HS} {X : Nat} {M : MS} {g : XG} {D' : LM} {ss : List St} (h : XRg G y X M g) (hv : V G y' D') (k : Kp y y') (kf : KF y (xD g) y' D') (hD : De (xO g) D' = xDl g) (hS : XS G y' D' (xO g) (xLs g) (xSq g) (xS1 g) (xS2 g) ss) : XRg G y' X (mE M, mK M, ss, mT M, mF M) (setD g D') := by
  obtain ⟨h1, ⟨c1, c2, c3⟩, h3, h4, h5, ⟨v0, v1, c0, t0, k0, w0, lf0, wy0, h6⟩, ⟨v0', v1', c0', t0', k0', w0', lf0', wy0', h7⟩, h8⟩ := h
  refine ⟨hv, ⟨k _ _ c1 rfl, k _ _ c2 rfl, c3⟩, hS, ?_, h5.kb k.kb (fun b fs z => k _ _ z rfl) kf hD, ⟨v0, v1, c0, t0, k0, w0, lf0, wy0, k _ _ h6 rfl⟩, ⟨v0', v1', c0', t0', k0', w0', lf0', wy0', k _ _ h7 rfl⟩, h8⟩
  show EX G y' D' (De (xO g) D') (xE g) (mE M) (xEg g)
  rw [hD]
  exact h4.kb k.kb ((k _ _ h4.1.1 rfl).trans h4.1.1.symm) kf
theorem XS.kb {G : GP} {y y' : HS} {D : LM} {O : Nat → Nat × Nat} {ls : Nat} {sq : List Nat} {s1 s2 : Nat → Nat} {ss : List St} (h : XS G y D O ls sq s1 s2 ss) (k : Kb y y') (kc : Kc y y' 17) : XS G y' D O ls sq s1 s2 ss := by
  obtain ⟨h1, h2, h3, h4, h5, h6⟩ := h
  exact ⟨h1, h2, h3, h4, h5, fun i a b => ⟨(h6 i a b).1.kb k kc rfl rfl, (h6 i a b).2⟩⟩
/-- only a Seen is another -/
theorem XRg.su {G : GP} {y y' : HS} {X a : Nat} {M : MS} {g : XG} (h : XRg G y X M g) (u : SU y y' a) (ha : a = xSn g ∨ a = xOt g) (hs : seenC y' a) : XRg G y' X M g := by
  have h0 := h
  obtain ⟨h1, ⟨c1, c2, c3⟩, h3, h4, h5, h6, h7, h8⟩ := h
  obtain ⟨w0, w1, d0, r0, k0, x0, f0, z0, hs1⟩ := id hs
  have hc : ∃ fs, y.1 a = some (ob 2 fs) := by
    rcases ha with rfl | rfl
    · obtain ⟨v0, v1, c0, t0, k0, w0, lf0, wy0, h6⟩ := h6; exact ⟨_, h6⟩
    · obtain ⟨v0, v1, c0, t0, k0, w0, lf0, wy0, h7⟩ := h7; exact ⟨_, h7⟩
  obtain ⟨fs, hc⟩ := hc
  have hk := u.kb hc rfl
  have hkf := u.kf h1 hc (by decide)
  refine ⟨u.v h1 hc hs1 (by decide), ⟨u.kc hc (by decide) _ _ c1, u.arr hc c2, c3⟩, h3.kb hk (u.kc hc (by decide)), h4.kb hk ((u.kc hc (by decide) _ _ h4.1.1).trans h4.1.1.symm) hkf, h5.kb hk (u.kc hc (by decide)) hkf rfl, ?_, ?_, h8⟩
  · by_cases e : xSn g = a
    · rw [e]; exact hs
    · obtain ⟨v0, v1, c0, t0, k0, w0, lf0, wy0, h6⟩ := h6
      exact ⟨v0, v1, c0, t0, k0, w0, lf0, wy0, by rw [u.1 _ e]; exact h6⟩
  · by_cases e : xOt g = a
    · rw [e]; exact hs
    · obtain ⟨v0, v1, c0, t0, k0, w0, lf0, wy0, h7⟩ := h7
      exact ⟨v0, v1, c0, t0, k0, w0, lf0, wy0, by rw [u.1 _ e]; exact h7⟩
theorem XRg.cx {G : GP} {y : HS} {X : Nat} {M : MS} {g : XG} (h : XRg G y X M g) : y.1 X = some (ob 0 [va_rf (some (xTp g)), .int (nI (mT M).length), .int (mF M), va_rf (some (xLs g)), va_rf (some (xE g)), va_rf (xKq g), va_rf (some (xSn g)), va_rf (some (xOt g))]) := h.2.1.1
theorem sp_isStay {G : GP} {y : HS} {X : Nat} {M : MS} {g : XG} {i : Int32} {post : Bool → HS → Prop} (h : XRg G y X M g) (hp : post (isSt (mS M).length i) y) : wp_X1_isStay G post y X i := by
  obtain ⟨h1, h2, h3, -⟩ := id h
  obtain ⟨fs, hfs⟩ := h1.cell h3.1
  refine ⟨_, ⟨_, h.cx, rfl⟩, _, rfl, ⟨fs, Or.inl hfs⟩, h1.size h3.1 (sp_within ?_)⟩
  rw [List.length_map, h3.2.2.1]
  exact hp
/-- a stay's object is got -/
theorem sp_stayAt {G : GP} {y : HS} {X k : Nat} {M : MS} {g : XG} {post : Option Nat → HS → Prop} (h : XRg G y X M g) (hk : k < (mS M).length) (hp : ∀ (hq : k < (xSq g).length), stR G y (xD g) (xSq g)[k] (xS1 g (xSq g)[k]) (xS2 g (xSq g)[k]) (mS M)[k] → stOk (mS M)[k] → post (some (xSq g)[k]) y) : wp_J2_get G post y (xLs g) (nI k) := by
  obtain ⟨h1, h2, h3, -⟩ := h
  have hq : k < (xSq g).length := by rw [h3.2.2.1]; exact hk
  refine h1.get h3.1 (i := k) (by rw [List.length_map]; exact hq) ?_
  rw [List.getElem_map]
  obtain ⟨a1, a2, a3, a4⟩ := h3.2.2.2.2.2 k hk hq
  exact hp hq a1 a4
theorem XRg.ls {G : GP} {y : HS} {X : Nat} {M : MS} {g : XG} (h : XRg G y X M g) : ∃ fs, rd G y (xLs g) (ob 18 fs) := by
  obtain ⟨h1, h2, h3, -⟩ := h
  obtain ⟨fs, hfs⟩ := h1.cell h3.1
  exact ⟨fs, Or.inl hfs⟩
theorem stR.of {G : GP} {y : HS} {D : LM} {q l1 l2 : Nat} {s : St} (h : stR G y D q l1 l2 s) : isOf G y (some q) 17 := fun w hw => by cases hw; exact ⟨_, Or.inl h.1⟩
theorem sp_X1_looks {G : GP} {y : HS} {X k : Nat} {M : MS} {g : XG} {post : HS → Prop} (h : XRg G y X M g) (hk : k < (mS M).length) (hp : ∀ (y' : HS) (hq : k < (xSq g).length), XRg G y' X M g → SU y y' (xSn g) → y'.1 (xSn g) = some (ob 2 [va_rf (some (xE g)), va_rf (some (xSq g)[k]), .int (lkC (mE M) (mS M)[k]), .int (lkT (mE M) (mS M)[k]), .int (lkL (mE M) (mS M)[k]), va_rf (lkA (xEg g) (mE M) (mS M)[k]), .int (nI (aWays (mE M) (mS M)[k]).length), .long (wv (aWays (mE M) (mS M)[k]))]) → post y') : wp_X1_looks G post y X (nI k) := by
  obtain ⟨h1, h2, h3, h4, h5, ⟨v0, v1, c0, t0, k0, w0, lf0, wy0, h6⟩, -⟩ := id h
  refine ⟨_, ⟨_, h.cx, rfl⟩, _, ⟨_, h.cx, rfl⟩, _, ⟨_, h.cx, rfl⟩, _, rfl, h.ls, sp_stayAt h hk (fun hq hst _ => ⟨hst.of, _, rfl, ⟨_, Or.inl h6⟩, sp_looks (xDl_sub g) h1 h4 hst h6 (fun y' u hs => ?_)⟩)⟩
  exact hp y' hq (h.su u (Or.inl rfl) ⟨_, _, _, _, _, _, _, _, hs⟩) u hs
/-- one stay is another -/
theorem XS.upd {G : GP} {y y' : HS} {D : LM} {O : Nat → Nat × Nat} {ls k : Nat} {sq : List Nat} {s1 s2 : Nat → Nat} {ss : List St} {c : Int32} {xs : List (Option Nat)} {s : St} (h : XS G y D O ls sq s1 s2 ss) (hk : k < ss.length) (hq : k < sq.length) (kp : Kp y y') (hst : stR G y' (va_up D (lst2 c (s1 sq[k]) (s2 sq[k])) (some xs)) sq[k] (s1 sq[k]) (s2 sq[k]) s) (ho : stOk s) : XS G y' (va_up D (lst2 c (s1 sq[k]) (s2 sq[k])) (some xs)) O ls sq s1 s2 (ss.set k s) ∧ De O (va_up D (lst2 c (s1 sq[k]) (s2 sq[k])) (some xs)) = De O D := by
  obtain ⟨h1, h2, h3, h4, h5, h6⟩ := h
  obtain ⟨a1, a2, a3, a4⟩ := h6 k hk hq
  have hO : O (lst2 c (s1 sq[k]) (s2 sq[k])) = (2, sq[k]) ∨ O (lst2 c (s1 sq[k]) (s2 sq[k])) = (3, sq[k]) := by
    unfold lst2
    cases isD c
    · exact Or.inr a3
    · exact Or.inl a2
  have hne : ∀ l, O l ≠ (2, sq[k]) → O l ≠ (3, sq[k]) → va_up D (lst2 c (s1 sq[k]) (s2 sq[k])) (some xs) l = D l := fun l e1 e2 => by
    unfold va_up
    rw [if_neg (fun z => by rw [z] at e1 e2; rcases hO with z | z; exact e1 z; exact e2 z)]
  refine ⟨⟨by rw [hne ls (by rw [h2]; simp) (by rw [h2]; simp)]; exact h1, h2, by rw [List.length_set]; exact h3, by rw [List.length_set]; exact h4, h5, fun j hj hj2 => ?_⟩, ?_⟩
  · rw [List.length_set] at hj
    rw [List.getElem_set]
    by_cases e : k = j
    · subst e
      rw [if_pos rfl]
      exact ⟨hst, a2, a3, ho⟩
    · rw [if_neg e]
      obtain ⟨b1, b2, b3, b4⟩ := h6 j hj hj2
      have hsq : sq[j] ≠ sq[k] := fun z => e ((List.getElem_inj h5).mp z).symm
      exact ⟨b1.kp kp (hne _ (by rw [b2]; simp [hsq]) (by rw [b2]; simp)) (hne _ (by rw [b3]; simp) (by rw [b3]; simp [hsq])), b2, b3, b4⟩
  · exact De.up (fun z => by rcases hO with z2 | z2 <;> rw [z] at z2 <;> simp at z2)
theorem XRg.upd {G : GP} {y y' : HS} {X k : Nat} {M : MS} {g : XG} {c : Int32} {xs : List (Option Nat)} {s : St} (h : XRg G y X M g) (hk : k < (mS M).length) (hq : k < (xSq g).length) (hv : V G y' (va_up (xD g) (lst2 c (xS1 g (xSq g)[k]) (xS2 g (xSq g)[k])) (some xs))) (kp : Kp y y') (kf : KF y (xD g) y' (va_up (xD g) (lst2 c (xS1 g (xSq g)[k]) (xS2 g (xSq g)[k])) (some xs))) (hst : stR G y' (va_up (xD g) (lst2 c (xS1 g (xSq g)[k]) (xS2 g (xSq g)[k])) (some xs)) (xSq g)[k] (xS1 g (xSq g)[k]) (xS2 g (xSq g)[k]) s) (ho : stOk s) : XRg G y' X (mE M, mK M, (mS M).set k s, mT M, mF M) (setD g (va_up (xD g) (lst2 c (xS1 g (xSq g)[k]) (xS2 g (xSq g)[k])) (some xs))) := by
  obtain ⟨w1, w2⟩ := h.2.2.1.upd hk hq kp hst ho
  exact h.kp hv kp kf w2 w1
/-- new cells alone -/
theorem XRg.new {G : GP} {y y' : HS} {X : Nat} {M : MS} {g : XG} (h : XRg G y X M g) (hv : V G y' (xD g)) (kp : Kp y y') (kf : KF y (xD g) y' (xD g)) : XRg G y' X M g := h.kp hv kp kf rfl (h.2.2.1.kb kp.kb (fun b fs z => kp _ _ z rfl))
