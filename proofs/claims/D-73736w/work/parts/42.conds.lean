/-! Conditions in a row: children ahead of parents -/
set_option maxRecDepth 100000
abbrev ix (x : Int32) : Nat := x.toNatClampNeg
/-- the answer of the condition i -/
def ev (F : Cn → Bool) (cs : List Cn) : Nat → Nat → Bool
  | 0, _ => false
  | n + 1, i => match cs[i]? with
    | none => false
    | some k => if k.1 = 0 then ev F cs n (ix k.2.1) || ev F cs n (ix k.2.2.1) else if k.1 = 1 then ev F cs n (ix k.2.1) && ev F cs n (ix k.2.2.1) else if k.1 = 2 then !(ev F cs n (ix k.2.1)) else F k
/-- the row is in order -/
def cOk (cs : List Cn) : Prop := ∀ i k, cs[i]? = some k → (k.1 ≤ 1 → ix k.2.1 < i ∧ ix k.2.2.1 < i) ∧ (k.1 = 2 → ix k.2.1 < i)
theorem ev_fuel {F : Cn → Bool} {cs : List Cn} (h : cOk cs) : ∀ n m i, i < n → i < m → ev F cs n i = ev F cs m i := by
  intro n
  induction n with
  | zero => intro m i hi; exact absurd hi (Nat.not_lt_zero _)
  | succ n ih =>
    intro m i hi hm
    cases m with
    | zero => exact absurd hm (Nat.not_lt_zero _)
    | succ m =>
      unfold ev
      cases hc : cs[i]? with
      | none => rfl
      | some k =>
        obtain ⟨h1, h2⟩ := h i k hc
        dsimp only
        by_cases k0 : k.1 = 0
        · have := h1 (by omega)
          rw [if_pos k0, if_pos k0, ih m _ (by omega) (by omega), ih m _ (by omega) (by omega)]
        · by_cases k1 : k.1 = 1
          · have := h1 (by omega)
            rw [if_neg k0, if_neg k0, if_pos k1, if_pos k1, ih m _ (by omega) (by omega), ih m _ (by omega) (by omega)]
          · by_cases k2 : k.1 = 2
            · have := h2 k2
              rw [if_neg k0, if_neg k0, if_neg k1, if_neg k1, if_pos k2, if_pos k2, ih m _ (by omega) (by omega)]
            · rw [if_neg k0, if_neg k0, if_neg k1, if_neg k1, if_neg k2, if_neg k2]
def vl (F : Cn → Bool) (cs : List Cn) (i : Nat) : Bool := ev F cs (i + 1) i
theorem vl_or {F : Cn → Bool} {cs : List Cn} {i : Nat} {k : Cn} (h : cOk cs) (hk : cs[i]? = some k) (k0 : k.1 = 0) : vl F cs i = (vl F cs (ix k.2.1) || vl F cs (ix k.2.2.1)) := by
  have := (h i k hk).1 (by omega)
  unfold vl
  rw [ev, hk]
  dsimp only
  rw [if_pos k0, ev_fuel h i (ix k.2.1 + 1) _ (by omega) (by omega), ev_fuel h i (ix k.2.2.1 + 1) _ (by omega) (by omega)]
theorem vl_and {F : Cn → Bool} {cs : List Cn} {i : Nat} {k : Cn} (h : cOk cs) (hk : cs[i]? = some k) (k1 : k.1 = 1) : vl F cs i = (vl F cs (ix k.2.1) && vl F cs (ix k.2.2.1)) := by
  have := (h i k hk).1 (by omega)
  unfold vl
  rw [ev, hk]
  dsimp only
  rw [if_neg (by omega), if_pos k1, ev_fuel h i (ix k.2.1 + 1) _ (by omega) (by omega), ev_fuel h i (ix k.2.2.1 + 1) _ (by omega) (by omega)]
theorem vl_not {F : Cn → Bool} {cs : List Cn} {i : Nat} {k : Cn} (h : cOk cs) (hk : cs[i]? = some k) (k2 : k.1 = 2) : vl F cs i = !(vl F cs (ix k.2.1)) := by
  have := (h i k hk).2 k2
  unfold vl
  rw [ev, hk]
  dsimp only
  rw [if_neg (by omega), if_neg (by omega), if_pos k2, ev_fuel h i (ix k.2.1 + 1) _ (by omega) (by omega)]
theorem vl_atom {F : Cn → Bool} {cs : List Cn} {i : Nat} {k : Cn} (hk : cs[i]? = some k) (k3 : 3 ≤ k.1) : vl F cs i = F k := by
  unfold vl
  rw [ev, hk]
  dsimp only
  rw [if_neg (by omega), if_neg (by omega), if_neg (by omega)]
/-- a row of terms, joined to the left: p, then the rest; i: the last -/
def isCh (cs : List Cn) (w : Nat) : Nat → List Nat → Nat → Prop
  | p, [], i => p = i
  | p, r :: rs, i => ∃ j k, cs[j]? = some k ∧ k.1 = w ∧ ix k.2.1 = p ∧ ix k.2.2.1 = r ∧ isCh cs w j rs i
theorem ch_or {F : Cn → Bool} {cs : List Cn} (h : cOk cs) : ∀ (rs : List Nat) (p i : Nat), isCh cs 0 p rs i → vl F cs i = (vl F cs p || rs.any (fun r => vl F cs r)) := by
  intro rs
  induction rs with
  | nil => intro p i hi; rw [show p = i from hi]; simp
  | cons r rs ih =>
    rintro p i ⟨j, k, hk, k0, e1, e2, hj⟩
    rw [ih j i hj, vl_or h hk k0, e1, e2, List.any_cons, Bool.or_assoc]
theorem ch_and {F : Cn → Bool} {cs : List Cn} (h : cOk cs) : ∀ (rs : List Nat) (p i : Nat), isCh cs 1 p rs i → vl F cs i = (vl F cs p && rs.all (fun r => vl F cs r)) := by
  intro rs
  induction rs with
  | nil => intro p i hi; rw [show p = i from hi]; simp
  | cons r rs ih =>
    rintro p i ⟨j, k, hk, k0, e1, e2, hj⟩
    rw [ih j i hj, vl_and h hk k0, e1, e2, List.all_cons, Bool.and_assoc]
