/-! Plain laws: a stay -/
set_option maxRecDepth 100000
def wthn (v lo hi : Int32) : Bool := !(decide (v < lo)) && !(decide (hi < v))
def isD (c : Int32) : Bool := wthn c 0 999
def isP (c : Int32) : Bool := wthn c 1000 1499
def vcost (v : Int32) : Nat := if v < -128 ∨ 127 < v then 1 else 0
theorem vcost_ok {v : Int32} {B : Nat} (h : vcost v ≤ B) : (¬ v < -128 ∧ ¬ 127 < v) ∨ 1 ≤ B := by
  unfold vcost at h
  by_cases hv : v < -128 ∨ 127 < v
  · rw [if_pos hv] at h; exact Or.inr h
  · exact Or.inl ⟨fun z => hv (Or.inl z), fun z => hv (Or.inr z)⟩
theorem vcost_le (v : Int32) : vcost v ≤ 1 := by unfold vcost; split <;> omega
theorem sp_within {G : GP} {y : HS} {v lo hi : Int32} {post : Bool → HS → Prop} (hp : post (wthn v lo hi) y) : wp_X1_within G post y v lo hi := by
  refine ⟨fun h => ?_, fun h => ⟨fun h2 => ?_, fun h2 => ?_⟩⟩ <;> simpa [wthn, h, *] using hp
theorem sp_isD {G : GP} {y : HS} {v : Int32} {post : Bool → HS → Prop} (hp : post (isD v) y) : wp_X1_isDiagnosis G post y v := sp_within hp
theorem sp_isP {G : GP} {y : HS} {v : Int32} {post : Bool → HS → Prop} (hp : post (isP v) y) : wp_X1_isProcedure G post y v := sp_within hp
/-- a stay: its main diagnosis, age, days, second diagnoses, procedures -/
abbrev St : Type := Int32 × Int32 × Int32 × List Int32 × List Int32
abbrev sMain (s : St) : Int32 := s.1
abbrev sAge (s : St) : Int32 := s.2.1
abbrev sDays (s : St) : Int32 := s.2.2.1
abbrev sSecs (s : St) : List Int32 := s.2.2.2.1
abbrev sProcs (s : St) : List Int32 := s.2.2.2.2
def sRow (s : St) (c : Int32) : List Int32 := if isD c then (sSecs s) else (sProcs s)
def sMay (s : St) (c : Int32) : Bool := (isD c || isP c) && !(decide (c = sMain s)) && !(decide (c ∈ sRow s c)) && decide ((sRow s c).length < (if isD c then 8 else 6))
def insP (vs : List Int32) (c : Int32) : Nat := (vs.takeWhile (fun v => decide (v < c))).length
def sSet (s : St) (c : Int32) (vs : List Int32) : St := if isD c then (sMain s, sAge s, sDays s, vs, sProcs s) else (sMain s, sAge s, sDays s, sSecs s, vs)
def sPut (s : St) (c : Int32) : St := sSet s c ((sRow s c).insertIdx (insP (sRow s c) c) c)
def sDel (s : St) (c : Int32) : St := sSet s c ((sRow s c).eraseIdx ((sRow s c).idxOf c))
/-- the stay s lies at q, its rows at l1, l2 -/
def stR (G : GP) (y : HS) (D : LM) (q l1 l2 : Nat) (s : St) : Prop := y.1 q = some (ob 17 [.int (sMain s), .int (sAge s), .int (sDays s), va_rf (some l1), va_rf (some l2)]) ∧ (∃ xs, D l1 = some xs ∧ BX G y xs (sSecs s)) ∧ (∃ xs, D l2 = some xs ∧ BX G y xs (sProcs s)) ∧ l1 ≠ l2 ∧ (sSecs s).length ≤ 8 ∧ (sProcs s).length ≤ 6
def lst2 (c : Int32) (l1 l2 : Nat) : Nat := if isD c then l1 else l2
theorem stR.row {G : GP} {y : HS} {D : LM} {q l1 l2 : Nat} {s : St} (h : stR G y D q l1 l2 s) (c : Int32) : ∃ xs, D (lst2 c l1 l2) = some xs ∧ BX G y xs (sRow s c) ∧ xs.length ≤ 8 := by
  obtain ⟨-, ⟨xs1, a1, a2⟩, ⟨xs2, b1, b2⟩, -, h5, h6⟩ := h
  unfold lst2 sRow
  cases isD c with
  | true => exact ⟨xs1, a1, a2, by rw [a2.len]; exact h5⟩
  | false => exact ⟨xs2, b1, b2, by rw [b2.len]; show (sProcs s).length ≤ 8; omega⟩
theorem stR.kp {G : GP} {y y' : HS} {D D' : LM} {q l1 l2 : Nat} {s : St} (h : stR G y D q l1 l2 s) (hk : Kp y y') (h1 : D' l1 = D l1) (h2 : D' l2 = D l2) : stR G y' D' q l1 l2 s := by
  obtain ⟨h0, ⟨xs1, a1, a2⟩, ⟨xs2, b1, b2⟩, h4, h5, h6⟩ := h
  exact ⟨hk _ _ h0 rfl, ⟨xs1, by rw [h1]; exact a1, a2.kp hk⟩, ⟨xs2, by rw [h2]; exact b1, b2.kp hk⟩, h4, h5, h6⟩
theorem sSet_main (s : St) (c : Int32) (vs : List Int32) : sMain (sSet s c vs) = sMain s ∧ sAge (sSet s c vs) = sAge s ∧ sDays (sSet s c vs) = sDays s := by
  unfold sSet; cases isD c <;> exact ⟨rfl, rfl, rfl⟩
theorem stR.upd {G : GP} {y y' : HS} {D : LM} {q l1 l2 : Nat} {s : St} {c : Int32} {xs : List (Option Nat)} {vs : List Int32} (h : stR G y D q l1 l2 s) (hk : Kp y y') (hb : BX G y' xs vs) (hl : vs.length ≤ if isD c then 8 else 6) : stR G y' (va_up D (lst2 c l1 l2) (some xs)) q l1 l2 (sSet s c vs) := by
  obtain ⟨h0, ⟨xs1, a1, a2⟩, ⟨xs2, b1, b2⟩, h4, h5, h6⟩ := h
  have h0' := hk _ _ h0 rfl
  unfold lst2 sSet
  cases hc : isD c with
  | true =>
    rw [hc] at hl
    exact ⟨h0', ⟨xs, by simp [va_up], hb⟩, ⟨xs2, by simp [va_up, Ne.symm h4]; exact b1, b2.kp hk⟩, h4, hl, h6⟩
  | false =>
    rw [hc] at hl
    exact ⟨h0', ⟨xs1, by simp [va_up, h4]; exact a1, a2.kp hk⟩, ⟨xs, by simp [va_up], hb⟩, h4, h5, hl⟩
theorem sp_X19_of {G : GP} {y : HS} {D : LM} {q l1 l2 : Nat} {s : St} {c : Int32} {post : Option Nat → HS → Prop} (h : stR G y D q l1 l2 s) (hp : post (some (lst2 c l1 l2)) y) : wp_X19_of G post y q c := by
  refine sp_isD ⟨fun hb => ⟨_, ⟨_, h.1, rfl⟩, ?_⟩, fun hb => ⟨_, ⟨_, h.1, rfl⟩, ?_⟩⟩ <;> simpa [lst2, hb] using hp
theorem sp_mayHave {G : GP} {y : HS} {D : LM} {B q l1 l2 : Nat} {s : St} {c : Int32} {post : Bool → HS → Prop} (hv : V G y D) (h : stR G y D q l1 l2 s) (hB : vcost c ≤ B) (hp : ∀ y', V G y' D → Kp y y' → Cls y y' → y.2 ≤ y'.2 → KF y D y' D → post (sMay s c) y') : wp_X19_mayHave G B post y q c := by
  have hr := Kp.rf y
  refine ⟨fun y3 u => y3 = y ∧ u = 0 ∧ (isD c || isP c) = true, ?_, sp_isD ⟨fun hb => ⟨rfl, rfl, by rw [hb]; rfl⟩, fun hb => sp_isP ⟨fun hb2 => ?_, fun hb2 => ⟨rfl, rfl, by rw [hb2, Bool.or_true]⟩⟩⟩⟩
  · rintro y3 u ⟨rfl, rfl, hdp⟩
    refine ⟨Nat.zero_le _, _, ⟨_, h.1, rfl⟩, fun he => ?_, fun hne => ⟨⟨_, Or.inl h.1⟩, sp_X19_of h ⟨B, by omega, sp_valueOf hv.1 (vcost_ok hB) (fun r y' w1 w2 w3 w4 w5 w6 => ?_)⟩⟩⟩
    · have := hp y3 hv hr (Cls.rf _) (Nat.le_refl _) (KF.rf _ _)
      simpa [sMay, he] using this
    · have hv' : V G y' D := hv.step w1 (fun b e hb _ => by rw [w5 b (hv.1.lt hb)]; exact hb) w3
      have hkf : KF y3 D y' D := KF.step (fun b e hb _ => by rw [w5 b (hv.1.lt hb)]; exact hb) (fun a xs hd => hv.cell hd)
      have h' := h.kp w2 rfl rfl
      obtain ⟨xs, x1, x2, x3⟩ := h'.row c
      obtain ⟨fs, hfs⟩ := hv'.cell x1
      refine ⟨_, rfl, ⟨fs, Or.inl hfs⟩, hv'.contains x1 x2 w6 ⟨fun hm => ?_, fun hm => ?_⟩⟩
      · refine ⟨fun y20 u x21 x22 => y20 = y' ∧ u ≤ B ∧ x21 = nI (if isD c then 8 else 6) ∧ x22 = nI xs.length, ?_, ⟨_, Or.inl h'.1⟩, sp_X19_of h' ⟨_, rfl, ⟨fs, Or.inl hfs⟩, hv'.size x1 (sp_isD ⟨fun hb => ⟨rfl, by omega, by rw [hb]; rfl, rfl⟩, fun hb => ⟨rfl, by omega, by rw [hb]; rfl, rfl⟩⟩)⟩⟩
        rintro y20 u x21 x22 ⟨rfl, hu, rfl, rfl⟩
        have h3 : (if isD c then 8 else 6) < 100 := by split <;> omega
        refine ⟨hu, fun hge => ?_, fun hlt => ?_⟩
        · have := (nI_leI (by omega) (by omega)).mp hge
          have hp' := hp y20 hv' w2 w3 w4 hkf
          have hz : ¬ (sRow s c).length < (if isD c then 8 else 6) := by rw [← x2.len]; omega
          simpa [sMay, hz] using hp'
        · have hz : (sRow s c).length < (if isD c then 8 else 6) := by
            rw [← x2.len]
            rcases Nat.lt_or_ge xs.length (if isD c then 8 else 6) with z | z
            · exact z
            · exact absurd (nI_le z (by omega)) hlt
          have hp' := hp y20 hv' w2 w3 w4 hkf
          have hm' := of_decide_eq_false hm
          have : sMay s c = true := by
            unfold sMay
            rw [hdp, decide_eq_false hne, hm, decide_eq_true hz]
            rfl
          rw [this] at hp'
          exact hp'
      · have hp' := hp y' hv' w2 w3 w4 hkf
        have : sMay s c = false := by
          unfold sMay
          rw [hm]; simp
        rw [this] at hp'
        exact hp'
  · have hp' := hp y hv hr (Cls.rf _) (Nat.le_refl _) (KF.rf _ _)
    have : sMay s c = false := by unfold sMay; rw [hb, hb2]; rfl
    rw [this] at hp'
    exact hp'
theorem insP_le (vs : List Int32) (c : Int32) : insP vs c ≤ vs.length := by
  unfold insP
  exact (List.takeWhile_sublist _).length_le
theorem insP_at {vs : List Int32} {c : Int32} {k : Nat} (hk : k ≤ vs.length) (h1 : ∀ j (hj : j < vs.length), j < k → vs[j] < c) (h2 : ∀ (hj : k < vs.length), ¬ vs[k] < c) : insP vs c = k := by
  induction vs generalizing k with
  | nil => simp at hk; subst hk; rfl
  | cons a t ih =>
    cases k with
    | zero =>
      have := h2 (Nat.zero_lt_succ _)
      have h3 : ¬ a < c := this
      simp [insP, h3]
    | succ k =>
      have h3 : a < c := h1 0 (Nat.zero_lt_succ _) (Nat.zero_lt_succ _)
      have h4 := ih (k := k) (Nat.le_of_succ_le_succ hk) (fun j hj hjk => h1 (j + 1) (Nat.succ_lt_succ hj) (Nat.succ_lt_succ hjk)) (fun hj => h2 (Nat.succ_lt_succ hj))
      unfold insP at h4 ⊢
      simp [h3, h4]
theorem sp_takes {G : GP} {y : HS} {D : LM} {B q l1 l2 : Nat} {s : St} {c : Int32} {post : HS → Prop} (hv : V G y D) (h : stR G y D q l1 l2 s) (hl : (sRow s c).length < if isD c then 8 else 6) (hB : vcost c + gco (sRow s c).length ≤ B)
    (hp : ∀ y' xs, V G y' (va_up D (lst2 c l1 l2) (some xs)) → stR G y' (va_up D (lst2 c l1 l2) (some xs)) q l1 l2 (sPut s c) → Kp y y' → Cls y y' → y.2 ≤ y'.2 → KF y D y' (va_up D (lst2 c l1 l2) (some xs)) → post y') : wp_X19_takes G B post y q c := by
  obtain ⟨xs, x1, x2, x3⟩ := h.row c
  obtain ⟨fs, hfs⟩ := hv.cell x1
  have hlen := x2.len
  refine ⟨⟨_, Or.inl h.1⟩, sp_X19_of h ?_⟩
  refine ⟨fun n y' u x => y' = y ∧ u = 0 ∧ ∃ k, x = nI k ∧ k ≤ xs.length ∧ n = xs.length - k ∧ ∀ j (hj : j < (sRow s c).length), j < k → (sRow s c)[j] < c, ⟨_, rfl, rfl, 0, rfl, Nat.zero_le _, rfl, fun j _ h => absurd h (Nat.not_lt_zero _)⟩, ?_⟩
  rintro n y' u x ⟨rfl, rfl, k, rfl, hk, rfl, hno⟩
  refine ⟨Nat.zero_le _, fun y14 u x15 => y14 = y' ∧ u = 0 ∧ x15 = nI (insP (sRow s c) c), ?_, _, rfl, ⟨fs, Or.inl hfs⟩, hv.size x1 ⟨fun hge => ?_, fun hlt => ?_⟩⟩
  · rintro y14 u x15 ⟨rfl, rfl, rfl⟩
    refine ⟨Nat.zero_le _, vcost c, by omega, sp_valueOf hv.1 (vcost_ok (Nat.le_refl _)) (fun r y2 w1 w2 w3 w4 w5 w6 => ?_)⟩
    have hv' : V G y2 D := hv.step w1 (fun b e hb _ => by rw [w5 b (hv.1.lt hb)]; exact hb) w3
    have hkf : KF y14 D y2 D := KF.step (fun b e hb _ => by rw [w5 b (hv.1.lt hb)]; exact hb) (fun a xs hd => hv.cell hd)
    obtain ⟨fs2, hfs2⟩ := hv'.cell x1
    have hin := insP_le (sRow s c) c
    refine ⟨_, rfl, ⟨fs2, Or.inl hfs2⟩, gco (sRow s c).length, by omega, hv'.insert x1 (by omega) (by omega) w6.ok (by rw [hlen]; exact Nat.le_refl _) (fun y3 z1 z2 z3 z4 z5 => ?_)⟩
    have hx := (x2.kp w2).kp z2
    have hlim : (if isD c then 8 else 6) < 100 := by split <;> omega
    refine hp y3 _ z1 ?_ (w2.tr z2) (w3.tr z3) (by omega) (hkf.tr z5)
    exact stR.upd (xs := xs.insertIdx (insP (sRow s c) c) r) h (w2.tr z2) (All2.ins hx (w6.kp z2) (by omega)) (by rw [List.length_insertIdx_of_le_length hin]; omega)
  · have hkl : k = xs.length := by
      have := (nI_leI (by omega) (by omega)).mp hge
      omega
    exact ⟨rfl, rfl, by rw [insP_at (by omega) hno (fun hj => absurd hj (by omega))]⟩
  · have hk2 : k < xs.length := by
      rcases Nat.lt_or_ge k xs.length with h | h
      · exact h
      · exact absurd (nI_le h (by omega)) hlt
    obtain ⟨q2, e1, e2⟩ := x2.at k hk2 (by omega)
    refine ⟨⟨fs, Or.inl hfs⟩, hv.get x1 hk2 ⟨(x2.at k hk2 (by omega)).of, q2, e1, ⟨_, e2⟩, sp_intValue e2 ⟨fun hge => ⟨rfl, rfl, ?_⟩, fun hl2 => ⟨xs.length - (k + 1), by omega, rfl, rfl, k + 1, by rw [nI_add], by omega, rfl, fun j hj hjk => ?_⟩⟩⟩⟩
    · rw [insP_at (by omega) hno (fun hj => Int32.not_lt.mpr hge)]
    · by_cases hjk2 : j = k
      · subst hjk2; exact Int32.not_le.mp hl2
      · exact hno j hj (by omega)
theorem sp_loses {G : GP} {y : HS} {D : LM} {B q l1 l2 : Nat} {s : St} {c : Int32} {post : Bool → HS → Prop} (hv : V G y D) (h : stR G y D q l1 l2 s) (hB : vcost c ≤ B)
    (h0 : ∀ y', c ∉ sRow s c → V G y' D → Kp y y' → Cls y y' → y.2 ≤ y'.2 → KF y D y' D → post false y')
    (hp : ∀ y' xs, c ∈ sRow s c → V G y' (va_up D (lst2 c l1 l2) (some xs)) → stR G y' (va_up D (lst2 c l1 l2) (some xs)) q l1 l2 (sDel s c) → Kp y y' → Cls y y' → y.2 ≤ y'.2 → KF y D y' (va_up D (lst2 c l1 l2) (some xs)) → post true y') : wp_X19_loses G B post y q c := by
  refine ⟨⟨_, Or.inl h.1⟩, sp_X19_of h ⟨B, by omega, sp_valueOf hv.1 (vcost_ok hB) (fun r y2 w1 w2 w3 w4 w5 w6 => ?_)⟩⟩
  have hv' : V G y2 D := hv.step w1 (fun b e hb _ => by rw [w5 b (hv.1.lt hb)]; exact hb) w3
  have hkf : KF y D y2 D := KF.step (fun b e hb _ => by rw [w5 b (hv.1.lt hb)]; exact hb) (fun a xs hd => hv.cell hd)
  have h' := h.kp w2 rfl rfl
  obtain ⟨xs, x1, x2, x3⟩ := h'.row c
  obtain ⟨fs, hfs⟩ := hv'.cell x1
  refine ⟨_, rfl, ⟨fs, Or.inl hfs⟩, hv'.remove x1 x2 w6 (fun hn => h0 y2 hn hv' w2 w3 w4 hkf) (fun y3 hm hi z1 z2 z3 z4 z5 => ?_)⟩
  have hlen := x2.len
  refine hp y3 _ hm z1 ?_ (w2.tr z2) (w3.tr z3) (by omega) (hkf.tr z5)
  refine stR.upd (xs := xs.eraseIdx ((sRow s c).idxOf c)) h (w2.tr z2) (All2.del (x2.kp z2) hi) ?_
  rw [List.length_eraseIdx_of_lt (by omega)]
  obtain ⟨-, -, -, -, h5, h6⟩ := h
  unfold sRow
  cases isD c
  · show (sProcs s).length - 1 ≤ 6; omega
  · show (sSecs s).length - 1 ≤ 8; omega
theorem sp_codes {G : GP} {y : HS} {D : LM} {q l1 l2 : Nat} {s : St} {post : Int32 → HS → Prop} (hv : V G y D) (h : stR G y D q l1 l2 s) (hp : post (nI ((sSecs s).length + (sProcs s).length)) y) : wp_X19_codes G post y q := by
  obtain ⟨h0, ⟨xs1, a1, a2⟩, ⟨xs2, b1, b2⟩, h4, h5, h6⟩ := h
  obtain ⟨f1, e1⟩ := hv.cell a1
  obtain ⟨f2, e2⟩ := hv.cell b1
  refine ⟨_, ⟨_, h0, rfl⟩, l1, rfl, ⟨f1, Or.inl e1⟩, hv.size a1 ⟨_, ⟨_, h0, rfl⟩, l2, rfl, ⟨f2, Or.inl e2⟩, hv.size b1 ?_⟩⟩
  rw [nI_add, a2.len, b2.len]
  exact hp
theorem sp_codeAt {G : GP} {y : HS} {D : LM} {q l1 l2 k : Nat} {s : St} {post : Int32 → HS → Prop} (hv : V G y D) (h : stR G y D q l1 l2 s) (hk : k < (sSecs s).length + (sProcs s).length) (hp : post ((sSecs s ++ sProcs s)[k]'(by simp; exact hk)) y) : wp_X19_codeAt G post y q (nI k) := by
  obtain ⟨h0, ⟨xs1, a1, a2⟩, ⟨xs2, b1, b2⟩, h4, h5, h6⟩ := h
  obtain ⟨f1, e1⟩ := hv.cell a1
  obtain ⟨f2, e2⟩ := hv.cell b1
  have l1' := a2.len
  have l2' := b2.len
  refine ⟨fun y3 r => y3 = y ∧ bx G y r ((sSecs s ++ sProcs s)[k]'(by simp; exact hk)), ?_, _, ⟨_, h0, rfl⟩, l1, rfl, ⟨f1, Or.inl e1⟩, hv.size a1 ⟨fun hge => ?_, fun hlt => ?_⟩⟩
  · rintro y3 r ⟨rfl, q2, e3, e4⟩
    exact ⟨q2, e3, ⟨_, e4⟩, sp_intValue e4 hp⟩
  · have hkl : xs1.length ≤ k := (nI_leI (by omega) (by omega)).mp hge
    refine ⟨_, ⟨_, h0, rfl⟩, _, ⟨_, h0, rfl⟩, l1, rfl, ⟨f1, Or.inl e1⟩, hv.size a1 ⟨l2, rfl, ⟨f2, Or.inl e2⟩, ?_⟩⟩
    rw [nI_sub hkl]
    have hb := b2.at (k - xs1.length) (by omega) (by omega)
    refine hv.get b1 (by omega) ⟨hb.of, rfl, ?_⟩
    rw [List.getElem_append_right (by omega)]
    simpa [l1'] using hb
  · have hkl : k < xs1.length := by
      rcases Nat.lt_or_ge k xs1.length with h | h
      · exact h
      · exact absurd (nI_le h (by omega)) hlt
    have hb := a2.at k hkl (by omega)
    refine ⟨_, ⟨_, h0, rfl⟩, l1, rfl, ⟨f1, Or.inl e1⟩, hv.get a1 hkl ⟨hb.of, rfl, ?_⟩⟩
    rw [List.getElem_append_left (by omega)]
    exact hb
