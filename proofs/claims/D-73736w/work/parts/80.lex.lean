/-! The text: tokens, in plain words -/
set_option maxRecDepth 100000
def isWs (c : Nat) : Bool := c == 32 || c == 10
def isLt (c : Nat) : Bool := Nat.ble 97 c && Nat.ble c 122
def isDg (c : Nat) : Bool := Nat.ble 48 c && Nat.ble c 57
def isLd (c : Nat) : Bool := isLt c || isDg c
def isSg (c : Nat) : Bool := c == 40 || c == 41 || c == 44 || c == 59 || c == 60 || c == 62
/-- a token: kind (0 the end 1 code 2 word 3 number 4 sign 5 none of these), letters, number -/
abbrev Tk : Type := Nat × List Nat × Nat
/-- where the token begins, the token, where it ends -/
abbrev LxS : Type := Nat × Tk × Nat
def skp (bs : List Nat) (p : Nat) : Nat := p + ((bs.drop p).takeWhile isWs).length
def rnn (bs : List Nat) (k : Nat) : List Nat := (bs.drop k).takeWhile isLd
def nmO (r : List Nat) : Nat := r.foldl (fun v c => 10 * v + (c - 48)) 0
def tkO (r : List Nat) : Tk :=
  if r.countP isLt = r.length ∧ r.length ≤ 8 then (2, r, 0)
  else if r.countP isLt = 0 ∧ r.length ≤ 3 then (3, [], nmO r)
  else if r.countP isLt = 1 ∧ r.length = 3 then
    (if 97 ≤ r.getD 0 0 ∧ r.getD 0 0 ≤ 106 then (1, [], 100 * (r.getD 0 0 - 97) + nmO (r.drop 1))
     else if 112 ≤ r.getD 0 0 ∧ r.getD 0 0 ≤ 116 then (1, [], 1000 + 100 * (r.getD 0 0 - 112) + nmO (r.drop 1))
     else (5, [], 0))
  else (5, [], 0)
def lex (bs : List Nat) (p : Nat) : LxS := match bs[skp bs p]? with
  | none => (skp bs p, (0, [], 0), skp bs p)
  | some c => if isLd c then (skp bs p, tkO (rnn bs (skp bs p)), skp bs p + (rnn bs (skp bs p)).length)
    else if isSg c then (skp bs p, (4, [], c), skp bs p + 1) else (skp bs p, (5, [], 0), skp bs p + 1)
theorem skp_ge (bs : List Nat) (p : Nat) : p ≤ skp bs p := Nat.le_add_right _ _
theorem lex_at (bs : List Nat) (p : Nat) : (lex bs p).1 = skp bs p := by
  unfold lex
  split
  · rfl
  · split
    · rfl
    · split <;> rfl
theorem skp_le {bs : List Nat} {p : Nat} (h : p ≤ bs.length) : skp bs p ≤ bs.length := by
  unfold skp
  have h1 : ((bs.drop p).takeWhile isWs).length ≤ (bs.drop p).length := (List.takeWhile_sublist _).length_le
  rw [List.length_drop] at h1
  omega
theorem rnn_le {bs : List Nat} {k : Nat} (h : k ≤ bs.length) : k + (rnn bs k).length ≤ bs.length := by
  unfold rnn
  have h1 : ((bs.drop k).takeWhile isLd).length ≤ (bs.drop k).length := (List.takeWhile_sublist _).length_le
  rw [List.length_drop] at h1
  omega
theorem rnn_pos {bs : List Nat} {k c : Nat} (hk : bs[k]? = some c) (hc : isLd c = true) : 1 ≤ (rnn bs k).length := by
  have hlt : k < bs.length := by
    rcases Nat.lt_or_ge k bs.length with z | z
    · exact z
    · rw [List.getElem?_eq_none z] at hk; cases hk
  rw [List.getElem?_eq_getElem hlt] at hk
  have := Option.some.inj hk
  unfold rnn
  rw [List.drop_eq_getElem_cons hlt, List.takeWhile_cons, this, hc]
  simp
theorem mem_tw {p : Nat → Bool} : ∀ {xs : List Nat} {c : Nat}, c ∈ xs.takeWhile p → p c = true := by
  intro xs
  induction xs with
  | nil => intro c h; cases h
  | cons a t ih =>
    intro c h
    rw [List.takeWhile_cons] at h
    by_cases e : p a = true
    · rw [if_pos e] at h
      rcases List.mem_cons.mp h with z | z
      · rw [z]; exact e
      · exact ih z
    · rw [if_neg e] at h; cases h
/-- all of a text: letters and digits of a run -/
theorem rnn_at {bs : List Nat} {k j : Nat} (hj : j < (rnn bs k).length) : bs[k + j]? = some (rnn bs k)[j] ∧ isLd (rnn bs k)[j] = true := by
  have hpre : rnn bs k <+: bs.drop k := List.takeWhile_prefix _
  obtain ⟨t, ht⟩ := hpre
  refine ⟨?_, ?_⟩
  · have h1 : (bs.drop k)[j]? = some (rnn bs k)[j] := by
      rw [← ht, List.getElem?_append_left hj, List.getElem?_eq_getElem hj]
    rw [List.getElem?_drop] at h1
    exact h1
  · have hm : (rnn bs k)[j] ∈ (bs.drop k).takeWhile isLd := List.getElem_mem hj
    exact mem_tw hm
theorem tw_stop {p : Nat → Bool} : ∀ {xs : List Nat} {c : Nat}, xs[(xs.takeWhile p).length]? = some c → p c = false := by
  intro xs
  induction xs with
  | nil => intro c h; cases h
  | cons a t ih =>
    intro c h
    rw [List.takeWhile_cons] at h
    by_cases e : p a = true
    · rw [if_pos e] at h
      simp only [List.length_cons, List.getElem?_cons_succ] at h
      exact ih h
    · rw [if_neg e] at h
      simp only [List.length_nil, List.getElem?_cons_zero] at h
      have := Option.some.inj h
      rw [← this]
      exact Bool.eq_false_iff.mpr e
theorem rnn_stop {bs : List Nat} {k c : Nat} (h : bs[k + (rnn bs k).length]? = some c) : isLd c = false := by
  unfold rnn at h
  rw [← List.getElem?_drop] at h
  exact tw_stop h
theorem skp_stop {bs : List Nat} {p c : Nat} (h : bs[skp bs p]? = some c) : isWs c = false := by
  unfold skp at h
  rw [← List.getElem?_drop] at h
  exact tw_stop h
theorem skp_in {bs : List Nat} {p j : Nat} (h1 : p ≤ j) (h2 : j < skp bs p) : ∃ c, bs[j]? = some c ∧ isWs c = true := by
  unfold skp at h2
  have hpre : (bs.drop p).takeWhile isWs <+: bs.drop p := List.takeWhile_prefix _
  obtain ⟨t, ht⟩ := hpre
  have hj : j - p < ((bs.drop p).takeWhile isWs).length := by omega
  refine ⟨((bs.drop p).takeWhile isWs)[j - p], ?_, mem_tw (List.getElem_mem hj)⟩
  have h3 : (bs.drop p)[j - p]? = some ((bs.drop p).takeWhile isWs)[j - p] := by
    have h4 : (((bs.drop p).takeWhile isWs) ++ t)[j - p]? = some ((bs.drop p).takeWhile isWs)[j - p] := by
      rw [List.getElem?_append_left hj, List.getElem?_eq_getElem hj]
    rw [ht] at h4
    exact h4
  rw [List.getElem?_drop, show p + (j - p) = j by omega] at h3
  exact h3
theorem ws_ld {c : Nat} (h : isWs c = true) : isLd c = false := by
  unfold isWs at h
  simp only [Bool.or_eq_true, beq_iff_eq] at h
  rcases h with h | h <;> subst h <;> decide
theorem nmO_lt : ∀ (r : List Nat) (v : Nat), (∀ c ∈ r, c ≤ 57) → r.foldl (fun v c => 10 * v + (c - 48)) v < (v + 1) * 10 ^ r.length := by
  intro r
  induction r with
  | nil => intro v _; simp
  | cons a t ih =>
    intro v h
    have h1 := ih (10 * v + (a - 48)) (fun c hc => h c (List.mem_cons_of_mem _ hc))
    have h2 := h a (List.mem_cons_self ..)
    rw [List.foldl_cons, List.length_cons, Nat.pow_succ]
    have h3 : (10 * v + (a - 48) + 1) * 10 ^ t.length ≤ ((v + 1) * 10) * 10 ^ t.length := Nat.mul_le_mul_right _ (by omega)
    have h4 : ((v + 1) * 10) * 10 ^ t.length = (v + 1) * (10 ^ t.length * 10) := by rw [Nat.mul_assoc, Nat.mul_comm 10]
    omega
theorem ld_dg {c : Nat} (h : isLd c = true) (h2 : isLt c = false) : 48 ≤ c ∧ c ≤ 57 := by
  unfold isLd at h
  rw [h2, Bool.false_or] at h
  unfold isDg at h
  rw [Bool.and_eq_true, Nat.ble_eq, Nat.ble_eq] at h
  exact h
theorem cnt0 {r : List Nat} (h : r.countP isLt = 0) : ∀ c ∈ r, isLt c = false := by
  intro c hc
  exact Bool.eq_false_iff.mpr (List.countP_eq_zero.mp h c hc)
theorem nmO_3 {r : List Nat} (hd : ∀ c ∈ r, c ≤ 57) (hl : r.length ≤ 3) : nmO r < 1000 := by
  have h1 := nmO_lt r 0 hd
  have h2 : 10 ^ r.length ≤ 10 ^ 3 := Nat.pow_le_pow_right (by omega) hl
  unfold nmO
  omega
theorem tkO_b {r : List Nat} (hr : ∀ c ∈ r, isLd c = true) (h1 : 1 ≤ r.length) : (tkO r).1 ≠ 0 ∧ (tkO r).1 ≤ 5 ∧ (tkO r).1 ≠ 4 ∧ (tkO r).2.2 < 1500 ∧ ((tkO r).1 = 2 → (tkO r).2.1 = r ∧ r.length ≤ 8 ∧ ∀ c ∈ r, isLt c = true) ∧ ((tkO r).1 ≠ 2 → (tkO r).2.1 = []) ∧ ((tkO r).1 = 1 → r.length = 3) ∧ ((tkO r).1 = 3 → r.length ≤ 3) := by
  unfold tkO
  split
  · next h =>
    refine ⟨(by decide : (2 : Nat) ≠ 0), (by decide : (2 : Nat) ≤ 5), (by decide : (2 : Nat) ≠ 4), (by decide : (0 : Nat) < 1500), fun _ => ⟨rfl, h.2, ?_⟩, fun z => absurd rfl z, fun z => absurd z (by decide : (2 : Nat) ≠ 1), fun z => absurd z (by decide : (2 : Nat) ≠ 3)⟩
    exact fun c hc => List.countP_eq_length.mp h.1 c hc
  · next h0 =>
    split
    · next h =>
      have hb := nmO_3 (r := r) (fun c hc => (ld_dg (hr c hc) (cnt0 h.1 c hc)).2) h.2
      exact ⟨(by decide : (3 : Nat) ≠ 0), (by decide : (3 : Nat) ≤ 5), (by decide : (3 : Nat) ≠ 4), (by show nmO r < 1500; omega), fun z => absurd z (by decide : (3 : Nat) ≠ 2), fun _ => rfl, fun z => absurd z (by decide : (3 : Nat) ≠ 1), fun _ => h.2⟩
    · split
      · next h =>
        obtain ⟨hc1, hl⟩ := h
        obtain ⟨a, t, rfl⟩ : ∃ a t, r = a :: t := by
          cases r with
          | nil => cases hl
          | cons a t => exact ⟨a, t, rfl⟩
        have ht : t.length = 2 := by simpa using hl
        have hnm : ∀ m, isLt a = true → m ≤ 1400 → m + nmO t < 1500 := by
          intro m ha hm
          rw [List.countP_cons_of_pos ha] at hc1
          have hb := nmO_lt t 0 (fun c hc => (ld_dg (hr c (List.mem_cons_of_mem _ hc)) (cnt0 (by omega) c hc)).2)
          rw [ht] at hb
          unfold nmO
          omega
        show (_ : Tk).1 ≠ 0 ∧ _
        simp only [List.getD_cons_zero, List.drop_one, List.tail_cons]
        split
        · next h =>
          have ha : isLt a = true := by unfold isLt; rw [Bool.and_eq_true, Nat.ble_eq, Nat.ble_eq]; omega
          exact ⟨(by decide : (1 : Nat) ≠ 0), (by decide : (1 : Nat) ≤ 5), (by decide : (1 : Nat) ≠ 4), hnm _ ha (by omega), fun z => absurd z (by decide : (1 : Nat) ≠ 2), fun _ => rfl, fun _ => hl, fun z => absurd z (by decide : (1 : Nat) ≠ 3)⟩
        · split
          · next h =>
            have ha : isLt a = true := by unfold isLt; rw [Bool.and_eq_true, Nat.ble_eq, Nat.ble_eq]; omega
            exact ⟨(by decide : (1 : Nat) ≠ 0), (by decide : (1 : Nat) ≤ 5), (by decide : (1 : Nat) ≠ 4), hnm _ ha (by omega), fun z => absurd z (by decide : (1 : Nat) ≠ 2), fun _ => rfl, fun _ => hl, fun z => absurd z (by decide : (1 : Nat) ≠ 3)⟩
          · exact ⟨(by decide : (5 : Nat) ≠ 0), (by decide : (5 : Nat) ≤ 5), (by decide : (5 : Nat) ≠ 4), (by decide : (0 : Nat) < 1500), fun z => absurd z (by decide : (5 : Nat) ≠ 2), fun _ => rfl, fun z => absurd z (by decide : (5 : Nat) ≠ 1), fun z => absurd z (by decide : (5 : Nat) ≠ 3)⟩
      · exact ⟨(by decide : (5 : Nat) ≠ 0), (by decide : (5 : Nat) ≤ 5), (by decide : (5 : Nat) ≠ 4), (by decide : (0 : Nat) < 1500), fun z => absurd z (by decide : (5 : Nat) ≠ 2), fun _ => rfl, fun z => absurd z (by decide : (5 : Nat) ≠ 1), fun z => absurd z (by decide : (5 : Nat) ≠ 3)⟩
theorem rnn_ld {bs : List Nat} {k : Nat} : ∀ c ∈ rnn bs k, isLd c = true := fun _ h => mem_tw h
theorem lex_none {bs : List Nat} {p : Nat} (h : bs[skp bs p]? = none) : lex bs p = (skp bs p, (0, [], 0), skp bs p) := by
  unfold lex
  rw [h]
theorem lex_run {bs : List Nat} {p c : Nat} (h : bs[skp bs p]? = some c) (hc : isLd c = true) : lex bs p = (skp bs p, tkO (rnn bs (skp bs p)), skp bs p + (rnn bs (skp bs p)).length) := by
  unfold lex
  rw [h]
  exact if_pos hc
theorem lex_sg {bs : List Nat} {p c : Nat} (h : bs[skp bs p]? = some c) (hc : isLd c = false) (h2 : isSg c = true) : lex bs p = (skp bs p, (4, [], c), skp bs p + 1) := by
  unfold lex
  rw [h]
  show (if isLd c = true then _ else _) = _
  rw [if_neg (by rw [hc]; decide), if_pos h2]
theorem lex_bad {bs : List Nat} {p c : Nat} (h : bs[skp bs p]? = some c) (hc : isLd c = false) (h2 : isSg c = false) : lex bs p = (skp bs p, (5, [], 0), skp bs p + 1) := by
  unfold lex
  rw [h]
  show (if isLd c = true then _ else _) = _
  rw [if_neg (by rw [hc]; decide), if_neg (by rw [h2]; decide)]
/-- what a token is, and how long -/
def tkB (bs : List Nat) (l : LxS) : Prop := l.1 ≤ l.2.2 ∧ l.2.2 ≤ bs.length ∧ (l.2.1.1 ≠ 0 → l.1 + 1 ≤ l.2.2) ∧ (l.2.1.1 = 0 → l.1 = bs.length) ∧ (l.2.1.1 = 2 → l.2.2 = l.1 + l.2.1.2.1.length ∧ l.2.1.2.1.length ≤ 8 ∧ 1 ≤ l.2.1.2.1.length ∧ ∀ c ∈ l.2.1.2.1, isLt c = true) ∧ (l.2.1.1 = 1 → l.2.2 = l.1 + 3) ∧ l.2.1.2.2 < 1500 ∧ l.2.1.1 ≤ 5 ∧ (l.2.1.1 = 3 → l.2.1.2.2 < 1000)
theorem sg_lt {c : Nat} (h : isSg c = true) : c < 100 := by
  unfold isSg at h
  simp only [Bool.or_eq_true, beq_iff_eq] at h
  omega
theorem tkO_n {r : List Nat} (hr : ∀ c ∈ r, isLd c = true) (h : (tkO r).1 = 3) : (tkO r).2.2 < 1000 := by
  unfold tkO at h ⊢
  split at h
  · cases h
  · next h0 =>
    split at h
    · next h1 =>
      rw [if_neg h0, if_pos h1]
      exact nmO_3 (fun c hc => (ld_dg (hr c hc) (cnt0 h1.1 c hc)).2) h1.2
    · split at h
      · split at h
        · cases h
        · split at h <;> cases h
      · cases h
theorem lex_b {bs : List Nat} {p : Nat} (hp : p ≤ bs.length) : tkB bs (lex bs p) ∧ p ≤ (lex bs p).1 := by
  have h1 := skp_le hp
  have h2 := skp_ge bs p
  cases hc : bs[skp bs p]? with
  | none =>
    rw [lex_none hc]
    have h3 : bs.length ≤ skp bs p := List.getElem?_eq_none_iff.mp hc
    exact ⟨⟨Nat.le_refl _, h1, fun z => absurd rfl z, fun _ => Nat.le_antisymm h1 h3, fun z => absurd z (by decide : (0 : Nat) ≠ 2), fun z => absurd z (by decide : (0 : Nat) ≠ 1), (by decide : (0 : Nat) < 1500), Nat.zero_le _, fun z => absurd z (by decide : (0 : Nat) ≠ 3)⟩, h2⟩
  | some c =>
    have hlt : skp bs p < bs.length := by
      rcases Nat.lt_or_ge (skp bs p) bs.length with z | z
      · exact z
      · rw [List.getElem?_eq_none z] at hc; cases hc
    by_cases hl : isLd c = true
    · rw [lex_run hc hl]
      have h3 := rnn_pos hc hl
      have h4 := rnn_le h1
      obtain ⟨t1, t2, t3, t4, t5, t6, t7, t8⟩ := tkO_b (r := rnn bs (skp bs p)) rnn_ld h3
      exact ⟨⟨Nat.le_add_right _ _, h4, fun _ => Nat.add_le_add_left h3 _, fun z => absurd z t1, fun z => by
        obtain ⟨u1, u2, u3⟩ := t5 z
        refine ⟨?_, ?_, ?_, ?_⟩
        · show _ = skp bs p + (tkO _).2.1.length; rw [u1]
        · show (tkO _).2.1.length ≤ 8; rw [u1]; exact u2
        · show 1 ≤ (tkO _).2.1.length; rw [u1]; exact h3
        · show ∀ c ∈ (tkO _).2.1, _; rw [u1]; exact u3, fun z => by show skp bs p + _ = _; rw [t7 z], t4, t2, fun z => tkO_n rnn_ld z⟩, h2⟩
    · have hl' : isLd c = false := Bool.eq_false_iff.mpr hl
      by_cases hs : isSg c = true
      · rw [lex_sg hc hl' hs]
        have h3 := sg_lt hs
        exact ⟨⟨Nat.le_succ _, hlt, fun _ => Nat.le_refl _, fun z => absurd z (by decide : (4 : Nat) ≠ 0), fun z => absurd z (by decide : (4 : Nat) ≠ 2), fun z => absurd z (by decide : (4 : Nat) ≠ 1), (by show c < 1500; omega), (by decide : (4 : Nat) ≤ 5), fun z => absurd z (by decide : (4 : Nat) ≠ 3)⟩, h2⟩
      · rw [lex_bad hc hl' (Bool.eq_false_iff.mpr hs)]
        exact ⟨⟨Nat.le_succ _, hlt, fun _ => Nat.le_refl _, fun z => absurd z (by decide : (5 : Nat) ≠ 0), fun z => absurd z (by decide : (5 : Nat) ≠ 2), fun z => absurd z (by decide : (5 : Nat) ≠ 1), (by decide : (0 : Nat) < 1500), (by decide : (5 : Nat) ≤ 5), fun z => absurd z (by decide : (5 : Nat) ≠ 3)⟩, h2⟩
