/-! Plain laws: Integers, lists of them -/
set_option maxRecDepth 100000
/-- r is an Integer that holds v -/
def bx (G : GP) (y : HS) (r : Option Nat) (v : Int32) : Prop := ∃ q, r = some q ∧ rd G y q (ob 21 [.int v])
/-- cells but lists and their arrays are kept -/
def isLs (e : HE) : Bool := match e with
  | .inl o => o.1 == 18
  | .inr x => x.1 == 6
def Kp (y y' : HS) : Prop := ∀ b e, y.1 b = some e → isLs e = false → y'.1 b = some e
theorem Kp.rf (y : HS) : Kp y y := fun _ _ h _ => h
theorem Kp.tr {y1 y2 y3 : HS} (h : Kp y1 y2) (k : Kp y2 y3) : Kp y1 y3 := fun b e hb he => k b e (h b e hb he) he
theorem Kp.new {G : GP} {y : HS} {e : HE} (hw : WF G y) : Kp y (hnew y e) := fun b e' hb _ => by rw [hnew_ne (Nat.ne_of_lt (hw.lt hb))]; exact hb
theorem Kp.putL {y : HS} {a : Nat} {e0 e : HE} (h : y.1 a = some e0) (hl : isLs e0 = true) : Kp y (hput y a e) := fun b e' hb he => by
  by_cases hba : b = a
  · subst hba
    rw [h] at hb
    cases Option.some.inj hb
    rw [hl] at he; cases he
  · rw [hput_ne hba]; exact hb
theorem rd.kp {G : GP} {y y' : HS} {a c : Nat} {fs : List Value} (hc : c ≠ 18) (h : rd G y a (ob c fs)) (k : Kp y y') : rd G y' a (ob c fs) := by
  rcases h with h | h
  · exact Or.inl (k _ _ h (by simp [isLs, ob, hc]))
  · exact Or.inr h
theorem bx.kp {G : GP} {y y' : HS} {r : Option Nat} {v : Int32} (h : bx G y r v) (k : Kp y y') : bx G y' r v := by
  obtain ⟨q, h1, h2⟩ := h
  exact ⟨q, h1, h2.kp (by decide) k⟩
theorem bx.ok {G : GP} {y : HS} {r : Option Nat} {v : Int32} (h : bx G y r v) : okO G y r := fun w hw => by
  obtain ⟨q, h1, h2⟩ := h
  cases h1.symm.trans hw
  exact ⟨21, _, by decide, h2⟩
theorem bx.of {G : GP} {y : HS} {r : Option Nat} {v : Int32} (h : bx G y r v) : isOf G y r 21 := fun w hw => by
  obtain ⟨q, h1, h2⟩ := h
  cases h1.symm.trans hw
  exact ⟨_, h2⟩
theorem sp_intValue {G : GP} {y : HS} {q : Nat} {v : Int32} {post : Int32 → HS → Prop} (h : rd G y q (ob 21 [.int v])) (hp : post v y) : wp_J13_intValue G post y q := ⟨v, ⟨_, h, rfl⟩, hp⟩
theorem sp_eq21 {G : GP} {y : HS} {q : Nat} {r : Option Nat} {v w : Int32} {post : Bool → HS → Prop} (h : rd G y q (ob 21 [.int v])) (hr : bx G y r w) (hp : post (decide (v = w)) y) : wp_J13_equals G post y q r := by
  obtain ⟨q2, h1, h2⟩ := hr
  refine ⟨true, Or.inr ⟨q2, 21, _, h1, h2, by decide, Or.inl ⟨rfl, rfl⟩⟩, fun h => (by cases h), fun _ => ⟨v, ⟨_, h, rfl⟩, bx.of ⟨q2, h1, h2⟩, q2, h1, ⟨_, h2⟩, sp_intValue h2 ⟨fun h => ?_, fun h => ?_⟩⟩⟩
  · rw [decide_eq_false h] at hp; exact hp
  · rw [decide_eq_true h] at hp; exact hp
/-- a new box or one of the cache's -/
theorem sp_valueOf {G : GP} {y : HS} {B : Nat} {v : Int32} {post : Option Nat → HS → Prop} (hw : WF G y) (hB : (¬ v < -128 ∧ ¬ 127 < v) ∨ 1 ≤ B) (hp : ∀ r y', WF G y' → Kp y y' → Cls y y' → y.2 ≤ y'.2 → (∀ b, b < y.2 → y'.1 b = y.1 b) → bx G y' r v → post r y') : wp_J13_valueOf G B post y v := by
  refine ⟨fun y3 u => y3 = y ∧ u = 0 ∧ 1 ≤ B, ?_, fun h => ⟨rfl, rfl, ?_⟩, fun h => ⟨fun h2 => ⟨rfl, rfl, ?_⟩, fun h2 => ?_⟩⟩
  · rintro y3 u ⟨rfl, rfl, hB⟩
    refine ⟨Nat.zero_le _, by omega, fun a6 ha y5 hy5 => ⟨[.int 0], ?_, by decide, fun y7 hy7 => ?_⟩⟩
    · rw [hy5, ha]; exact hnew_at _ _
    · have h1 : y5.1 a6 = some (ob 21 [.int 0]) := by rw [hy5, ha]; exact hnew_at _ _
      have h2 : ∀ b, b < y3.2 → y7.1 b = y3.1 b := fun b hb => by rw [hy7, hput_ne (by omega), hy5, hnew_ne (by omega)]
      refine hp _ _ ?_ (fun b e hb _ => ?_) (fun b c fs hb => ⟨fs, ?_⟩) ?_ h2 ⟨a6, rfl, Or.inl ?_⟩
      · rw [hy7]; exact WF.put (by rw [hy5]; exact hw.new) h1
      · rw [h2 b (hw.lt hb)]; exact hb
      · rw [h2 b (hw.lt hb)]; exact hb
      · rw [hy7, hy5]; exact Nat.le_succ _
      · rw [hy7, hput_at]; rfl
  · rcases hB with hB | hB
    · exact absurd h hB.1
    · exact hB
  · rcases hB with hB | hB
    · exact absurd h2 hB.2
    · exact hB
  · obtain ⟨j, h3, h4, h5⟩ := bx_small h h2
    have h6 : v + nI 128 = nI j := h4
    rw [h6]
    refine ⟨vp_inN h3 (by decide), ?_⟩
    rw [nI_clamp (by omega)]
    exact hp _ _ hw (Kp.rf y) (Cls.rf y) (Nat.le_refl _) (fun _ _ => rfl) ⟨_, rfl, Or.inr (Or.inr (Or.inr (Or.inl ⟨j, h3, rfl, by rw [h5]⟩)))⟩
/-- two rows, place by place -/
def All2 {α β : Type} (P : α → β → Prop) (xs : List α) (ys : List β) : Prop := xs.length = ys.length ∧ ∀ i (h1 : i < xs.length) (h2 : i < ys.length), P xs[i] ys[i]
theorem All2.nil {α β : Type} {P : α → β → Prop} : All2 P [] [] := ⟨rfl, fun i h => absurd h (Nat.not_lt_zero _)⟩
theorem All2.imp {α β : Type} {P Q : α → β → Prop} {xs : List α} {ys : List β} (h : All2 P xs ys) (k : ∀ x y, P x y → Q x y) : All2 Q xs ys := ⟨h.1, fun i h1 h2 => k _ _ (h.2 i h1 h2)⟩
theorem All2.snoc {α β : Type} {P : α → β → Prop} {xs : List α} {ys : List β} {x : α} {y : β} (h : All2 P xs ys) (k : P x y) : All2 P (xs ++ [x]) (ys ++ [y]) := by
  refine ⟨by simp [h.1], fun i h1 h2 => ?_⟩
  by_cases hi : i < xs.length
  · rw [List.getElem_append_left hi, List.getElem_append_left (by rw [← h.1]; exact hi)]
    exact h.2 i hi _
  · have : i = xs.length := by simp at h1; omega
    subst this
    simp [h.1, k]
theorem All2.mem {α β : Type} {P : α → β → Prop} {xs : List α} {ys : List β} (h : All2 P xs ys) {x : α} (hx : x ∈ xs) : ∃ y, y ∈ ys ∧ P x y := by
  obtain ⟨i, hi, e⟩ := List.getElem_of_mem hx
  exact ⟨ys[i]'(by rw [← h.1]; exact hi), List.getElem_mem _, by rw [← e]; exact h.2 i hi _⟩
theorem All2.ins {α β : Type} {P : α → β → Prop} {xs : List α} {ys : List β} {x : α} {y : β} {k : Nat} (h : All2 P xs ys) (hk : P x y) (hle : k ≤ xs.length) : All2 P (xs.insertIdx k x) (ys.insertIdx k y) := by
  have hle2 : k ≤ ys.length := by rw [← h.1]; exact hle
  refine ⟨by rw [List.length_insertIdx_of_le_length hle, List.length_insertIdx_of_le_length hle2, h.1], fun i h1 h2 => ?_⟩
  rcases Nat.lt_trichotomy i k with hi | hi | hi
  · rw [List.getElem_insertIdx_of_lt hi, List.getElem_insertIdx_of_lt hi]
    exact h.2 i _ _
  · subst hi
    rw [List.getElem_insertIdx_self, List.getElem_insertIdx_self]
    exact hk
  · rw [List.getElem_insertIdx_of_gt hi, List.getElem_insertIdx_of_gt hi]
    exact h.2 _ _ _
theorem All2.del {α β : Type} {P : α → β → Prop} {xs : List α} {ys : List β} {k : Nat} (h : All2 P xs ys) (hk : k < xs.length) : All2 P (xs.eraseIdx k) (ys.eraseIdx k) := by
  have hk2 : k < ys.length := by rw [← h.1]; exact hk
  refine ⟨by rw [List.length_eraseIdx_of_lt hk, List.length_eraseIdx_of_lt hk2, h.1], fun i h1 h2 => ?_⟩
  rcases Nat.lt_or_ge i k with hi | hi
  · rw [List.getElem_eraseIdx_of_lt h1 hi, List.getElem_eraseIdx_of_lt h2 hi]
    exact h.2 _ _ _
  · rw [List.getElem_eraseIdx_of_ge h1 hi, List.getElem_eraseIdx_of_ge h2 hi]
    exact h.2 _ _ _
/-- the values of a list of Integers -/
def BX (G : GP) (y : HS) (xs : List (Option Nat)) (vs : List Int32) : Prop := All2 (bx G y) xs vs
theorem BX.kp {G : GP} {y y' : HS} {xs : List (Option Nat)} {vs : List Int32} (h : BX G y xs vs) (k : Kp y y') : BX G y' xs vs := All2.imp h (fun _ _ hb => hb.kp k)
theorem BX.ok {G : GP} {y : HS} {xs : List (Option Nat)} {vs : List Int32} (h : BX G y xs vs) : ∀ x ∈ xs, okO G y x := fun x hx => by
  obtain ⟨v, -, hv⟩ := All2.mem h hx
  exact hv.ok
theorem BX.len {G : GP} {y : HS} {xs : List (Option Nat)} {vs : List Int32} (h : BX G y xs vs) : xs.length = vs.length := h.1
theorem BX.at {G : GP} {y : HS} {xs : List (Option Nat)} {vs : List Int32} (h : BX G y xs vs) : ∀ i (h1 : i < xs.length) (h2 : i < vs.length), bx G y xs[i] vs[i] := h.2
theorem ls_contains {G : GP} {y : HS} {a arr cap : Nat} {xs : List (Option Nat)} {vs : List Int32} {r : Option Nat} {v : Int32} {post : Bool → HS → Prop} (h : Lst G y a arr cap xs) (hv : BX G y xs vs) (hr : bx G y r v) (hp : post (decide (v ∈ vs)) y) : wp_J2_contains G post y a r := by
  have hle := h.le
  obtain ⟨q, rfl, hq⟩ := hr
  obtain ⟨g, hg1, hg2⟩ := h.rd
  obtain ⟨⟨md, h1⟩, h2, h3⟩ := h
  have hlen := hv.len
  refine ⟨⟨_, Or.inl h1⟩, _, ⟨_, h1, rfl⟩, ⟨_, Or.inl h1⟩, _, ⟨_, h1, rfl⟩, fun h => (by cases h), fun a3 ha3 => ?_⟩
  cases ha3
  refine ⟨fun n y' x => y' = y ∧ ∃ k, x = nI k ∧ k ≤ xs.length ∧ n = xs.length - k ∧ ∀ j (hj : j < vs.length), j < k → v ≠ vs[j], ⟨_, rfl, 0, rfl, Nat.zero_le _, rfl, fun j _ h => absurd h (Nat.not_lt_zero _)⟩, ?_⟩
  rintro n y' x ⟨rfl, k, rfl, hk, rfl, hno⟩
  refine ⟨fun hge => ⟨fun _ => ?_, fun hh => absurd (by decide) hh⟩, fun hlt => ?_⟩
  · have : k = xs.length := by
      have := (nI_leI (by omega) (by omega)).mp hge
      omega
    have hnm : v ∉ vs := fun hm => by
      obtain ⟨j, hj, e⟩ := List.getElem_of_mem hm
      exact hno j hj (by omega) e.symm
    rw [decide_eq_false hnm] at hp
    exact hp
  · have hk2 : k < xs.length := by
      rcases Nat.lt_or_ge k xs.length with h | h
      · exact h
      · exact absurd (nI_le h (by omega)) hlt
    refine ⟨arr, rfl, cap, g, hg1, vp_inN (by omega) (by omega), fun b y'' => y'' = y' ∧ b = decide (v = vs[k]'(by omega)), ?_, Or.inl ⟨⟨_, hq⟩, ?_⟩⟩
    · rintro b y'' ⟨rfl, rfl⟩
      refine ⟨fun hb => ⟨xs.length - (k + 1), by omega, rfl, k + 1, by rw [nI_add], by omega, rfl, fun j hj hjk => ?_⟩, fun hb => ⟨fun hneg => absurd hneg (nI_pos (by omega)), fun _ => ?_⟩⟩
      · by_cases hjk2 : j = k
        · subst hjk2; exact of_decide_eq_false hb
        · exact hno j hj (by omega)
      · have e := of_decide_eq_true hb
        have hm : v ∈ vs := by rw [e]; exact List.getElem_mem _
        rw [decide_eq_true hm] at hp
        exact hp
    · rw [nI_clamp (by omega), hg2 k hk2]
      exact sp_eq21 hq (hv.at k hk2 (by omega)) ⟨rfl, rfl⟩
