/-! Plain laws: ranks, partners, chapters, as a stay is looked at -/
set_option maxRecDepth 100000
abbrev Rk : Type := Sp × Int32
abbrev Pt9 : Type := Sp × Int32 × List Sp
def rkR (y : HS) (r : Option Nat) (k : Rk) : Prop := ∃ q s, r = some q ∧ y.1 q = some (ob 9 [va_rf s, .int k.2]) ∧ spR y s k.1
def ptR (y : HS) (D : LM) (r : Option Nat) (p : Pt9) : Prop := ∃ q s l, r = some q ∧ y.1 q = some (ob 10 [va_rf s, .int p.2.1, va_rf (some l)]) ∧ spR y s p.1 ∧ spsR y D l p.2.2
/-- what looks at the stay s by the edition e -/
def snR (y : HS) (a e s : Nat) : Prop := ∃ (c t v w : Int32) (lf : Option Nat) (wy : Int64), y.1 a = some (ob 2 [va_rf (some e), va_rf (some s), .int c, .int t, .int v, va_rf lf, .int w, .long wy])
/-- the edition's lists -/
def eL (y : HS) (e lc lr lp ll lo : Nat) : Prop := ∃ (nm wt : Option Nat) (n1 n2 : Int32), y.1 e = some (ob 1 [va_rf (some lc), va_rf (some lr), va_rf (some lp), va_rf (some ll), va_rf (some lo), va_rf nm, va_rf wt, .int n1, .int n2])
theorem rkR.of {G : GP} {y : HS} {r : Option Nat} {k : Rk} (h : rkR y r k) : isOf G y r 9 := fun w hw => by
  obtain ⟨q, s, h1, h2, -⟩ := h
  cases h1.symm.trans hw
  exact ⟨_, Or.inl h2⟩
theorem ptR.of {G : GP} {y : HS} {D : LM} {r : Option Nat} {k : Pt9} (h : ptR y D r k) : isOf G y r 10 := fun w hw => by
  obtain ⟨q, s, l, h1, h2, -⟩ := h
  cases h1.symm.trans hw
  exact ⟨_, Or.inl h2⟩
/-- the first that is so -/
def fst9 {α : Type} (xs : List α) (p : α → Bool) : Int32 := if xs.findIdx p < xs.length then nI (xs.findIdx p) else -1
theorem findIdx_at {α : Type} {xs : List α} {p : α → Bool} {k : Nat} (hk : k < xs.length) (hno : ∀ j (hj : j < xs.length), j < k → p xs[j] = false) (h : p xs[k] = true) : xs.findIdx p = k := by
  rw [List.findIdx_eq hk]
  exact ⟨h, fun j hj => hno j (by omega) hj⟩
theorem findIdx_no {α : Type} {xs : List α} {p : α → Bool} (hno : ∀ j (hj : j < xs.length), p xs[j] = false) : ¬ xs.findIdx p < xs.length := fun h => by
  have := List.findIdx_getElem (w := h)
  rw [hno _ h] at this
  cases this
def rankOf (rs : List Rk) (c : Int32) : Int32 := if h : rs.findIdx (fun r => has r.1 c) < rs.length then (rs[rs.findIdx (fun r => has r.1 c)]).2 else 0
theorem sp_rankOf {G : GP} {y : HS} {D : LM} {a e s lc lr lp ll lo : Nat} {xs : List (Option Nat)} {rs : List Rk} {c : Int32} {post : Int32 → HS → Prop} (hv : V G y D) (hs : snR y a e s) (he : eL y e lc lr lp ll lo) (h1 : D lr = some xs) (h2 : All2 (rkR y) xs rs) (hp : post (rankOf rs c) y) : wp_X4_rankOf G post y a c := by
  obtain ⟨fs, hfs⟩ := hv.cell h1
  have hlen := h2.1
  have hl := hv.len h1
  obtain ⟨c0, t0, v0, w0, lf0, wy0, hs⟩ := hs
  obtain ⟨nm, wt, n1, n2, he⟩ := he
  refine ⟨fun n y' x => y' = y ∧ ∃ k, x = nI k ∧ k ≤ xs.length ∧ n = xs.length - k ∧ ∀ j (hj : j < rs.length), j < k → has rs[j].1 c = false, ⟨_, rfl, 0, rfl, Nat.zero_le _, rfl, fun j _ h => absurd h (Nat.not_lt_zero _)⟩, ?_⟩
  rintro n y' x ⟨rfl, k, rfl, hk, rfl, hno⟩
  refine ⟨_, ⟨_, hs, rfl⟩, e, rfl, _, ⟨_, he, rfl⟩, lr, rfl, ⟨fs, Or.inl hfs⟩, hv.size h1 ⟨fun hge => ?_, fun hlt => ?_⟩⟩
  · have hkl := nle_of (by omega) hk hge
    have h3 := findIdx_no (xs := rs) (p := fun r => has r.1 c) (fun j hj => hno j hj (by omega))
    rw [rankOf, dif_neg h3] at hp
    exact hp
  · have hk2 := nlt_of (by omega) hk hlt
    obtain ⟨q, sq, e1, e2, q3, e3, e4⟩ := h2.2 k hk2 (by omega)
    refine ⟨_, ⟨_, hs, rfl⟩, e, rfl, _, ⟨_, he, rfl⟩, lr, rfl, ⟨fs, Or.inl hfs⟩, hv.get h1 hk2 ⟨(h2.2 k hk2 (by omega)).of, q, e1, _, ⟨_, e2, rfl⟩, q3, e3, ⟨_, Or.inl e4⟩, sp_has e4 ⟨fun hb => ⟨xs.length - (k + 1), by omega, rfl, k + 1, by rw [nI_add], by omega, rfl, fun j hj hjk => ?_⟩, fun hb => ?_⟩⟩⟩
    · by_cases hjk2 : j = k
      · subst hjk2; exact hb
      · exact hno j hj (by omega)
    · refine ⟨_, ⟨_, hs, rfl⟩, e, rfl, _, ⟨_, he, rfl⟩, lr, rfl, ⟨fs, Or.inl hfs⟩, hv.get h1 hk2 ⟨(h2.2 k hk2 (by omega)).of, q, e1, _, ⟨_, e2, rfl⟩, ?_⟩⟩
      have h3 := findIdx_at (xs := rs) (p := fun r => has r.1 c) (k := k) (by omega) hno hb
      have h4 : rs.findIdx (fun r => has r.1 c) < rs.length := by omega
      rw [rankOf, dif_pos h4] at hp
      simp only [h3] at hp
      exact hp
def mx (a b : Int32) : Int32 := if a < b then b else a
def topOf (rs : List Rk) (cs : List Int32) : Int32 := cs.foldl (fun b c => mx b (rankOf rs c)) 0
theorem sp_topOf {G : GP} {y : HS} {D : LM} {a e q l1 l2 lc lr lp ll lo : Nat} {s : St} {xs : List (Option Nat)} {rs : List Rk} {post : Int32 → HS → Prop} (hv : V G y D) (hs : snR y a e q) (hst : stR G y D q l1 l2 s) (he : eL y e lc lr lp ll lo) (h1 : D lr = some xs) (h2 : All2 (rkR y) xs rs) (hp : post (topOf rs (sProcs s)) y) : wp_X4_topOf G post y a := by
  have hs0 := hs
  obtain ⟨c0, t0, v0, w0, lf0, wy0, hs⟩ := hs
  obtain ⟨g0, ⟨xs1, a1, a2⟩, ⟨xs2, b1, b2⟩, g4, g5, g6⟩ := hst
  obtain ⟨fs, hfs⟩ := hv.cell b1
  have hlen := b2.len
  refine ⟨fun n y' x7 x => y' = y ∧ ∃ k, x = nI k ∧ k ≤ xs2.length ∧ n = xs2.length - k ∧ x7 = topOf rs ((sProcs s).take k), ⟨_, rfl, 0, rfl, Nat.zero_le _, rfl, rfl⟩, ?_⟩
  rintro n y' x7 x ⟨rfl, k, rfl, hk, rfl, rfl⟩
  refine ⟨_, ⟨_, hs, rfl⟩, q, rfl, _, ⟨_, g0, rfl⟩, l2, rfl, ⟨fs, Or.inl hfs⟩, hv.size b1 ⟨fun hge => ?_, fun hlt => ?_⟩⟩
  · have hkl := nle_of (by omega) hk hge
    rw [List.take_of_length_le (by omega)]
    exact hp
  · have hk2 := nlt_of (by omega) hk hlt
    obtain ⟨q2, e1, e2⟩ := b2.at k hk2 (by omega)
    refine ⟨_, ⟨_, hs, rfl⟩, q, rfl, _, ⟨_, g0, rfl⟩, l2, rfl, ⟨fs, Or.inl hfs⟩, hv.get b1 hk2 ⟨(b2.at k hk2 (by omega)).of, q2, e1, ⟨_, e2⟩, sp_intValue e2 ⟨⟨_, Or.inl hs⟩, sp_rankOf hv hs0 he h1 h2 (fun x31 hx => ⟨xs2.length - (k + 1), by omega, rfl, k + 1, by rw [nI_add], by omega, rfl, ?_⟩)⟩⟩⟩
    rw [hx, topOf, topOf, List.take_succ_eq_append_getElem (by omega), List.foldl_append]
    rfl
def partnerFor (ps : List Pt9) (c : Int32) : Int32 := fst9 ps (fun p => has p.1 c)
theorem sp_partnerOf {G : GP} {y : HS} {D : LM} {a e s lc lr lp ll lo : Nat} {xs : List (Option Nat)} {ps : List Pt9} {c : Int32} {post : Int32 → HS → Prop} (hv : V G y D) (hs : snR y a e s) (he : eL y e lc lr lp ll lo) (h1 : D lp = some xs) (h2 : All2 (ptR y D) xs ps) (hp : post (partnerFor ps c) y) : wp_X4_partnerOf G post y a c := by
  obtain ⟨fs, hfs⟩ := hv.cell h1
  have hlen := h2.1
  have hl := hv.len h1
  obtain ⟨c0, t0, v0, w0, lf0, wy0, hs⟩ := hs
  obtain ⟨nm, wt, n1, n2, he⟩ := he
  refine ⟨fun n y' x => y' = y ∧ ∃ k, x = nI k ∧ k ≤ xs.length ∧ n = xs.length - k ∧ ∀ j (hj : j < ps.length), j < k → has ps[j].1 c = false, ⟨_, rfl, 0, rfl, Nat.zero_le _, rfl, fun j _ h => absurd h (Nat.not_lt_zero _)⟩, ?_⟩
  rintro n y' x ⟨rfl, k, rfl, hk, rfl, hno⟩
  refine ⟨_, ⟨_, hs, rfl⟩, e, rfl, _, ⟨_, he, rfl⟩, lp, rfl, ⟨fs, Or.inl hfs⟩, hv.size h1 ⟨fun hge => ?_, fun hlt => ?_⟩⟩
  · have hkl := nle_of (by omega) hk hge
    have h3 := findIdx_no (xs := ps) (p := fun r => has r.1 c) (fun j hj => hno j hj (by omega))
    rw [partnerFor, fst9, if_neg h3] at hp
    exact hp
  · have hk2 := nlt_of (by omega) hk hlt
    obtain ⟨q, sq, l9, e1, e2, ⟨q3, e3, e4⟩, e5⟩ := h2.2 k hk2 (by omega)
    refine ⟨_, ⟨_, hs, rfl⟩, e, rfl, _, ⟨_, he, rfl⟩, lp, rfl, ⟨fs, Or.inl hfs⟩, hv.get h1 hk2 ⟨(h2.2 k hk2 (by omega)).of, q, e1, _, ⟨_, e2, rfl⟩, q3, e3, ⟨_, Or.inl e4⟩, sp_has e4 ⟨fun hb => ⟨xs.length - (k + 1), by omega, rfl, k + 1, by rw [nI_add], by omega, rfl, fun j hj hjk => ?_⟩, fun hb => ?_⟩⟩⟩
    · by_cases hjk2 : j = k
      · subst hjk2; exact hb
      · exact hno j hj (by omega)
    · have h3 := findIdx_at (xs := ps) (p := fun r => has r.1 c) (k := k) (by omega) hno hb
      rw [partnerFor, fst9, if_pos (by omega), h3] at hp
      exact hp
