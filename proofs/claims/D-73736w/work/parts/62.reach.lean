/-! Which leaves can be reached: sets of answers -/
set_option maxRecDepth 100000
def bt (x : Int32) (u : Nat) : Bool := decide (((x >>> (nI u &&& 31)) &&& nI 1) = nI 1)
def evC (sp cm : Int32) (k : Cn) : Bool := bt (if k.1 < 6 then sp else cm) k.2.2.2
theorem bv_one (a : BitVec 32) : (a &&& 1#32) = 1#32 ↔ a.getLsbD 0 = true := by
  rw [← BitVec.toNat_inj, BitVec.toNat_and]
  show a.toNat &&& 1 = 1 ↔ a.toNat.testBit 0 = true
  rw [Nat.and_one_is_mod, Nat.testBit_zero, decide_eq_true_iff]
theorem bt_bit (x : Int32) : ∀ u, u < 6 → bt x u = x.toBitVec.getLsbD u := by
  intro u hu
  have h1 : (nI u &&& 31).toBitVec.smod 32 = BitVec.ofNat 32 u := (by decide : ∀ u, u < 6 → (nI u &&& 31).toBitVec.smod 32 = BitVec.ofNat 32 u) u hu
  have h2 : (BitVec.ofNat 32 u).toNat = u := (by decide : ∀ u, u < 6 → (BitVec.ofNat 32 u).toNat = u) u hu
  rw [bt, Bool.eq_iff_iff, decide_eq_true_iff, ← Int32.toBitVec_inj]
  have h3 : ((x >>> (nI u &&& 31)) &&& nI 1).toBitVec = (x.toBitVec.sshiftRight u) &&& 1#32 := by
    show (x >>> (nI u &&& 31)).toBitVec &&& 1#32 = _
    rw [Int32.toBitVec_shiftRight, h1]
    show (x.toBitVec.sshiftRight (BitVec.ofNat 32 u).toNat) &&& 1#32 = _
    rw [h2]
  rw [h3]
  show (x.toBitVec.sshiftRight u) &&& 1#32 = 1#32 ↔ _
  rw [bv_one, BitVec.getLsbD_sshiftRight]
  simp only [Nat.add_zero]
  rw [if_pos (by omega)]
  simp
theorem bt_or (x y : Int32) {u : Nat} (hu : u < 6) : bt (x ||| y) u = (bt x u || bt y u) := by
  rw [bt_bit _ u hu, bt_bit _ u hu, bt_bit _ u hu, Int32.toBitVec_or, BitVec.getLsbD_or]
theorem bt_one {w u : Nat} (hw : w < 6) (hu : u < 6) : bt (nI 1 <<< (nI w &&& 31)) u = decide (w = u) := (by decide : ∀ w, w < 6 → ∀ u, u < 6 → bt (nI 1 <<< (nI w &&& 31)) u = decide (w = u)) w hw u hu
theorem bt_zero {u : Nat} (hu : u < 6) : bt 0 u = false := (by decide : ∀ u, u < 6 → bt 0 u = false) u hu
/-- the answers to the comparisons of the fact w of the tree c at the value v, by the first n conditions -/
def stv (cs : List Cn) (ct : Nat → Nat) (c w : Nat) (v : Int32) : Nat → Int32
  | 0 => 0
  | n + 1 => match cs[n]? with
    | none => stv cs ct c w v n
    | some k => if k.1 = w ∧ ct n = c ∧ cmpM k.2.1 v k.2.2.1 = true then stv cs ct c w v n ||| (nI 1 <<< (nI k.2.2.2 &&& 31)) else stv cs ct c w v n
theorem bt_stv {cs : List Cn} {ct : Nat → Nat} {c w : Nat} {v : Int32} {u : Nat} (ho : cOk2 cs) (hw : 6 ≤ w) (hu : u < 6) : ∀ n, bt (stv cs ct c w v n) u = true ↔ ∃ i k, i < n ∧ cs[i]? = some k ∧ k.1 = w ∧ ct i = c ∧ cmpM k.2.1 v k.2.2.1 = true ∧ k.2.2.2 = u := by
  intro n
  induction n with
  | zero =>
    rw [stv, bt_zero hu]
    exact ⟨fun z => (by cases z), fun ⟨i, k, hi, _⟩ => absurd hi (Nat.not_lt_zero _)⟩
  | succ n ih =>
    rw [stv]
    cases hk : cs[n]? with
    | none =>
      dsimp only
      rw [ih]
      constructor
      · rintro ⟨i, k, hi, h⟩
        exact ⟨i, k, by omega, h⟩
      · rintro ⟨i, k, hi, h1, h2⟩
        by_cases e : i = n
        · rw [e, hk] at h1; cases h1
        · exact ⟨i, k, by omega, h1, h2⟩
    | some k =>
      dsimp only
      by_cases h : k.1 = w ∧ ct n = c ∧ cmpM k.2.1 v k.2.2.1 = true
      · have h6 := (ho n k hk).2.2.2 (by omega)
        rw [if_pos h, bt_or _ _ hu, bt_one h6 hu, Bool.or_eq_true, ih, decide_eq_true_iff]
        constructor
        · rintro (⟨i, k2, hi, h1⟩ | e)
          · exact ⟨i, k2, by omega, h1⟩
          · exact ⟨n, k, by omega, hk, h.1, h.2.1, h.2.2, e⟩
        · rintro ⟨i, k2, hi, h1, h2, h3, h4, h5⟩
          by_cases e : i = n
          · subst e
            rw [hk] at h1
            cases h1
            exact Or.inr h5
          · exact Or.inl ⟨i, k2, by omega, h1, h2, h3, h4, h5⟩
      · rw [if_neg h, ih]
        constructor
        · rintro ⟨i, k2, hi, h1⟩
          exact ⟨i, k2, by omega, h1⟩
        · rintro ⟨i, k2, hi, h1, h2, h3, h4, h5⟩
          by_cases e : i = n
          · subst e
            rw [hk] at h1
            cases h1
            exact absurd ⟨h2, h3, h4⟩ h
          · exact ⟨i, k2, by omega, h1, h2, h3, h4, h5⟩
/-- to which tree a condition belongs -/
def EdCt (E : Ed) (ct : Nat → Nat) : Prop :=
  (∀ (n : Nat) (x : Nd), (eNd E)[n]? = some x → x.1 < 0 → ct x.2.1 = x.2.2.2.2 ∧ (∀ y : Nd, (eNd E)[x.2.2.1]? = some y → y.2.2.2.2 = x.2.2.2.2) ∧ (∀ y : Nd, (eNd E)[x.2.2.2.1]? = some y → y.2.2.2.2 = x.2.2.2.2)) ∧
  (∀ (i : Nat) (k : Cn), (eCn E)[i]? = some k → (k.1 ≤ 1 → ct (ix k.2.1) = ct i ∧ ct (ix k.2.2.1) = ct i) ∧ (k.1 = 2 → ct (ix k.2.1) = ct i)) ∧
  (∀ i, i < (eCn E).length → (∃ (n : Nat) (x : Nd), (eNd E)[n]? = some x ∧ x.1 < 0 ∧ x.2.1 = i) ∨ ∃ (j : Nat) (k : Cn), (eCn E)[j]? = some k ∧ i < j ∧ ((k.1 ≤ 1 ∧ (ix k.2.1 = i ∨ ix k.2.2.1 = i)) ∨ (k.1 = 2 ∧ ix k.2.1 = i))) ∧
  (∀ (i j : Nat) (k l : Cn), (eCn E)[i]? = some k → (eCn E)[j]? = some l → ct i = ct j → 6 ≤ k.1 → 6 ≤ l.1 → k.2.2.2 = l.2.2.2 → k.1 = l.1 ∧ k.2.1 = l.2.1 ∧ k.2.2.1 = l.2.2.1) ∧
  (∀ (c : Nat) (h : c < (eCh E).length) (x : Nd), (eNd E)[ix (eCh E)[c].2.2]? = some x → x.2.2.2.2 = c)
theorem vl_congr {F F' : Cn → Bool} {cs : List Cn} {ct : Nat → Nat} {c : Nat} (ho : cOk cs) (hc : ∀ (i : Nat) (k : Cn), cs[i]? = some k → (k.1 ≤ 1 → ct (ix k.2.1) = ct i ∧ ct (ix k.2.2.1) = ct i) ∧ (k.1 = 2 → ct (ix k.2.1) = ct i)) (hF : ∀ (i : Nat) (k : Cn), cs[i]? = some k → ct i = c → 3 ≤ k.1 → F k = F' k) : ∀ i, ct i = c → i < cs.length → vl F cs i = vl F' cs i := by
  intro i
  induction i using Nat.strongRecOn with
  | _ i ih =>
    intro hi hl
    have hk : cs[i]? = some cs[i] := List.getElem?_eq_getElem hl
    obtain ⟨o1, o2⟩ := ho i _ hk
    obtain ⟨c1, c2⟩ := hc i _ hk
    by_cases k0 : cs[i].1 = 0
    · have h1 := o1 (by omega)
      have h2 := c1 (by omega)
      rw [vl_or ho hk k0, vl_or ho hk k0, ih _ h1.1 (h2.1.trans hi) (by omega), ih _ h1.2 (h2.2.trans hi) (by omega)]
    · by_cases k1 : cs[i].1 = 1
      · have h1 := o1 (by omega)
        have h2 := c1 (by omega)
        rw [vl_and ho hk k1, vl_and ho hk k1, ih _ h1.1 (h2.1.trans hi) (by omega), ih _ h1.2 (h2.2.trans hi) (by omega)]
      · by_cases k2 : cs[i].1 = 2
        · have h1 := o2 k2
          have h2 := c2 k2
          rw [vl_not ho hk k2, vl_not ho hk k2, ih _ h1 (h2.trans hi) (by omega)]
        · rw [vl_atom hk (by omega), vl_atom hk (by omega), hF i _ hk hi (by omega)]
theorem gn_congr {F F' : Cn → Bool} {E : Ed} {ct : Nat → Nat} {c : Nat} (ho : cOk (eCn E)) (hn : nOk E) (hc : EdCt E ct) (hF : ∀ (i : Nat) (k : Cn), (eCn E)[i]? = some k → ct i = c → 3 ≤ k.1 → F k = F' k) : ∀ (f n : Nat), (∀ x : Nd, (eNd E)[n]? = some x → x.2.2.2.2 = c) → gn F (eNd E) (eCn E) f n = gn F' (eNd E) (eCn E) f n := by
  intro f
  induction f with
  | zero => intro n _; rfl
  | succ f ih =>
    intro n hx
    cases e : (eNd E)[n]? with
    | none => simp only [gn, e]
    | some x =>
      by_cases h : x.1 < 0
      · obtain ⟨h1, h2, h3⟩ := hc.1 n x e h
        have hxc := hx x e
        have hv := vl_congr (F := F) (F' := F') ho hc.2.1 hF x.2.1 (h1.trans hxc) ((hn n x e).1 h).2.2.2.2
        rw [gn_step e h, gn_step e h, hv]
        cases vl F' (eCn E) x.2.1 with
        | true =>
          simp only [if_true]
          rw [ih x.2.2.1 (fun y hy => (h2 y hy).trans hxc)]
        | false =>
          simp only [Bool.false_eq_true, if_false]
          rw [ih x.2.2.2.1 (fun y hy => (h3 y hy).trans hxc)]
      · rw [gn_leaf e h, gn_leaf e h]
/-- the sets of answers of all four facts together -/
def cmv (E : Ed) (ct : Nat → Nat) (c age day lv tp : Nat) : Int32 := (((0 ||| stv (eCn E) ct c 6 (nI age) (eCn E).length) ||| stv (eCn E) ct c 7 (nI day) (eCn E).length) ||| stv (eCn E) ct c 8 (nI lv) (eCn E).length) ||| stv (eCn E) ct c 9 (nI tp) (eCn E).length
theorem evC_evB {E : Ed} {ct : Nat → Nat} {c : Nat} (ho : cOk2 (eCn E)) (hc : EdCt E ct) (sp : Int32) (age day lv tp : Nat) : ∀ (i : Nat) (k : Cn), (eCn E)[i]? = some k → ct i = c → 3 ≤ k.1 → evC sp (cmv E ct c age day lv tp) k = evB sp (nI age) (nI day) (nI lv) (nI tp) k := by
  intro i k hk hi h3
  obtain ⟨t1, -, -, t4⟩ := ho i k hk
  have hu := t4 h3
  have hil : i < (eCn E).length := by
    rcases Nat.lt_or_ge i (eCn E).length with z | z
    · exact z
    · rw [List.getElem?_eq_none z] at hk; cases hk
  unfold evC evB
  by_cases h6 : k.1 < 6
  · rw [if_pos h6, if_pos h6]; rfl
  · rw [if_neg h6, if_neg h6]
    have key : ∀ (w : Nat) (v : Int32), 6 ≤ w → (bt (stv (eCn E) ct c w v (eCn E).length) k.2.2.2 = true ↔ (k.1 = w ∧ cmpM k.2.1 v k.2.2.1 = true)) := by
      intro w v hw
      rw [bt_stv ho hw hu]
      constructor
      · rintro ⟨i2, k2, -, g1, g2, g3, g4, g5⟩
        obtain ⟨e1, e2, e3⟩ := hc.2.2.2.1 i i2 k k2 hk g1 (hi.trans g3.symm) (by omega) (by omega) g5.symm
        rw [e1, e2, e3]
        exact ⟨g2, g4⟩
      · rintro ⟨g1, g2⟩
        exact ⟨i, k, hil, hk, g1, hi, g2, rfl⟩
    unfold cmv
    rw [bt_or _ _ hu, bt_or _ _ hu, bt_or _ _ hu, bt_or _ _ hu, bt_zero hu, Bool.false_or]
    have no : ∀ (w : Nat) (v : Int32), 6 ≤ w → k.1 ≠ w → bt (stv (eCn E) ct c w v (eCn E).length) k.2.2.2 = false := fun w v hw hne => by
      cases e : bt (stv (eCn E) ct c w v (eCn E).length) k.2.2.2 with
      | false => rfl
      | true => exact absurd ((key w v hw).mp e).1 hne
    have yes : ∀ (w : Nat) (v : Int32), 6 ≤ w → k.1 = w → bt (stv (eCn E) ct c w v (eCn E).length) k.2.2.2 = cmpM k.2.1 v k.2.2.1 := fun w v hw he => by
      rw [Bool.eq_iff_iff, key w v hw]
      exact ⟨fun z => z.2, fun z => ⟨he, z⟩⟩
    by_cases e6 : k.1 = 6
    · rw [if_pos e6, yes 6 _ (by omega) e6, no 7 _ (by omega) (by omega), no 8 _ (by omega) (by omega), no 9 _ (by omega) (by omega), Bool.or_false, Bool.or_false, Bool.or_false]
    · rw [if_neg e6]
      by_cases e7 : k.1 = 7
      · rw [if_pos e7, yes 7 _ (by omega) e7, no 6 _ (by omega) (by omega), no 8 _ (by omega) (by omega), no 9 _ (by omega) (by omega), Bool.or_false, Bool.or_false, Bool.false_or]
      · rw [if_neg e7]
        by_cases e8 : k.1 = 8
        · rw [if_pos e8, yes 8 _ (by omega) e8, no 6 _ (by omega) (by omega), no 7 _ (by omega) (by omega), no 9 _ (by omega) (by omega), Bool.or_false, Bool.or_false, Bool.false_or]
        · rw [if_neg e8, yes 9 _ (by omega) (by omega), no 6 _ (by omega) (by omega), no 7 _ (by omega) (by omega), no 8 _ (by omega) (by omega), Bool.or_false, Bool.or_false, Bool.false_or]
/-- a leaf is reached by sets of answers -/
theorem rch_sets {E : Ed} {ct : Nat → Nat} (ho : EdOk E) (hl : (eCn E).length ≤ 400) (hc : EdCt E ct) (n : Nat) : rchP E n ↔ ∃ (c : Nat) (h : c < (eCh E).length) (an age day lv tp : Nat), an < 64 ∧ age ≤ 120 ∧ 1 ≤ day ∧ day ≤ 400 ∧ lv ≤ 3 ∧ tp ≤ 9 ∧ (gn (evC (nI an) (cmv E ct c age day lv tp)) (eNd E) (eCn E) 40 (ix (eCh E)[c].2.2)).1 = n := by
  unfold rchP
  constructor
  · rintro ⟨c, h, an, age, day, lv, tp, h1, h2, h3, h4, h5, h6, h7⟩
    refine ⟨c, h, an, age, day, lv, tp, h1, h2, h3, h4, h5, h6, ?_⟩
    rw [gn_congr (ho.1.ok hl) ho.2.1 hc (evC_evB ho.1 hc (nI an) age day lv tp) 40 _ (fun x hx => hc.2.2.2.2 c h x hx)]
    exact h7
  · rintro ⟨c, h, an, age, day, lv, tp, h1, h2, h3, h4, h5, h6, h7⟩
    refine ⟨c, h, an, age, day, lv, tp, h1, h2, h3, h4, h5, h6, ?_⟩
    rw [gn_congr (ho.1.ok hl) ho.2.1 hc (evC_evB ho.1 hc (nI an) age day lv tp) 40 _ (fun x hx => hc.2.2.2.2 c h x hx)] at h7
    exact h7
