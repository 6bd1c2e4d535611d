/-! Plain laws: whether a second diagnosis counts; the level; the chapter -/
set_option maxRecDepth 100000
def cntF (but : List Sp) (c v : Int32) : Bool := decide (v = c) || !(anyS but v)
def countsF (but : List Sp) (s : St) (c : Int32) : Bool := !(anyS but (sMain s)) && (sSecs s).all (cntF but c)
theorem all_succ {xs : List Int32} {p : Int32 → Bool} {k : Nat} (hk : k < xs.length) : (xs.take (k + 1)).all p = ((xs.take k).all p && p xs[k]) := by
  rw [List.take_succ_eq_append_getElem hk, List.all_append]
  simp
theorem sp_counts {G : GP} {y : HS} {D : LM} {a e q l1 l2 lc lr lp ll lo i : Nat} {s : St} {xs : List (Option Nat)} {ps : List Pt9} {c : Int32} {post : Bool → HS → Prop} (hv : V G y D) (hs : snR y a e q) (hst : stR G y D q l1 l2 s) (he : eL y e lc lr lp ll lo) (h1 : D lp = some xs) (h2 : All2 (ptR y D) xs ps) (hi : i < ps.length) (hp : post (countsF (ps[i].2.2) s c) y) : wp_X4_counts G post y a c (nI i) := by
  obtain ⟨fs, hfs⟩ := hv.cell h1
  have hlen := h2.1
  have hl := hv.len h1
  obtain ⟨c0, t0, v0, w0, lf0, wy0, hs⟩ := hs
  obtain ⟨nm, wt, n1, n2, he⟩ := he
  obtain ⟨g0, ⟨xs1, a1, a2⟩, -, g4, g5, g6⟩ := hst
  obtain ⟨fs1, hfs1⟩ := hv.cell a1
  have hlen1 := a2.len
  obtain ⟨pq, sq, lb, e1, e2, e3, e5⟩ := h2.2 i (by omega) hi
  refine ⟨fun _ => ?_, fun h => absurd (nI_pos' (by omega)) h⟩
  refine ⟨fun y4 r b => y4 = y ∧ r = some lb ∧ b = !(anyS ps[i].2.2 (sMain s)), ?_, _, ⟨_, hs, rfl⟩, e, rfl, _, ⟨_, he, rfl⟩, lp, rfl, ⟨fs, Or.inl hfs⟩, hv.get h1 (by omega) ⟨(h2.2 i (by omega) hi).of, pq, e1, _, ⟨_, e2, rfl⟩, _, ⟨_, hs, rfl⟩, q, rfl, _, ⟨_, g0, rfl⟩, sp_haveAny hv e5 ⟨fun hb => ⟨rfl, rfl, by rw [hb]; rfl⟩, fun hb => ⟨rfl, rfl, by rw [hb]; rfl⟩⟩⟩⟩
  rintro y4 r b ⟨rfl, rfl, rfl⟩
  refine ⟨fun n y' b x => y' = y4 ∧ ∃ k, x = nI k ∧ k ≤ xs1.length ∧ n = xs1.length - k ∧ b = (!(anyS ps[i].2.2 (sMain s)) && ((sSecs s).take k).all (cntF ps[i].2.2 c)), ⟨_, rfl, 0, rfl, Nat.zero_le _, rfl, by simp⟩, ?_⟩
  rintro n y' b x ⟨rfl, k, rfl, hk, rfl, hb⟩
  refine ⟨_, ⟨_, hs, rfl⟩, q, rfl, _, ⟨_, g0, rfl⟩, l1, rfl, ⟨fs1, Or.inl hfs1⟩, hv.size a1 ⟨fun hge => ?_, fun hlt => ?_⟩⟩
  · have hkl := nle_of (by omega) hk hge
    rw [List.take_of_length_le (by omega)] at hb
    rw [hb]
    exact hp
  · have hk2 := nlt_of (by omega) hk hlt
    have hsucc := all_succ (xs := sSecs s) (p := cntF ps[i].2.2 c) (k := k) (by omega)
    refine ⟨fun hbf => ⟨xs1.length - (k + 1), by omega, rfl, k + 1, by rw [nI_add], by omega, rfl, ?_⟩, fun hbt => ?_⟩
    · rw [hsucc, ← Bool.and_assoc, ← hb, hbf]; rfl
    · have hbx := a2.at k hk2 (by omega)
      have hbx0 := hbx
      obtain ⟨q2, z1, z2⟩ := hbx
      refine ⟨_, ⟨_, hs, rfl⟩, q, rfl, _, ⟨_, g0, rfl⟩, l1, rfl, ⟨fs1, Or.inl hfs1⟩, hv.get a1 hk2 ⟨hbx0.of, q2, z1, ⟨_, z2⟩, sp_intValue z2 ⟨fun he => ⟨xs1.length - (k + 1), by omega, rfl, k + 1, by rw [nI_add], by omega, rfl, ?_⟩, fun hne => ?_⟩⟩⟩
      · rw [hsucc, ← Bool.and_assoc, ← hb, hbt]
        simp [cntF, he]
      · refine ⟨_, ⟨_, hs, rfl⟩, q, rfl, _, ⟨_, g0, rfl⟩, l1, rfl, ⟨fs1, Or.inl hfs1⟩, hv.get a1 hk2 ⟨hbx0.of, q2, z1, ⟨_, z2⟩, sp_intValue z2 (sp_haveAny hv e5 ⟨fun ha => ⟨xs1.length - (k + 1), by omega, rfl, k + 1, by rw [nI_add], by omega, rfl, ?_⟩, fun ha => ⟨xs1.length - (k + 1), by omega, rfl, k + 1, by rw [nI_add], by omega, rfl, ?_⟩⟩)⟩⟩
        · rw [hsucc, ← Bool.and_assoc, ← hb, hbt]
          simp [cntF, hne, ha]
        · rw [hsucc, ← Bool.and_assoc, ← hb, hbt]
          simp [cntF, hne, ha]
theorem sp_counts0 {G : GP} {y : HS} {a : Nat} {c : Int32} {post : Bool → HS → Prop} (hp : post false y) : wp_X4_counts G post y a c (-1) := ⟨fun h => absurd h (by decide), fun _ => hp⟩
/-- whether c counts by its partner -/
def countsP (ps : List Pt9) (s : St) (c : Int32) : Bool := if h : ps.findIdx (fun p => has p.1 c) < ps.length then countsF (ps[ps.findIdx (fun p => has p.1 c)].2.2) s c else false
def lvlOf (ps : List Pt9) (s : St) (c : Int32) : Int32 := if h : ps.findIdx (fun p => has p.1 c) < ps.length then (if countsF (ps[ps.findIdx (fun p => has p.1 c)].2.2) s c then ps[ps.findIdx (fun p => has p.1 c)].2.1 else 0) else 0
theorem sp_countsP {G : GP} {y : HS} {D : LM} {a e q l1 l2 lc lr lp ll lo : Nat} {s : St} {xs : List (Option Nat)} {ps : List Pt9} {c : Int32} {post : Bool → HS → Prop} (hv : V G y D) (hs : snR y a e q) (hst : stR G y D q l1 l2 s) (he : eL y e lc lr lp ll lo) (h1 : D lp = some xs) (h2 : All2 (ptR y D) xs ps) (hp : post (countsP ps s c) y) : wp_X4_counts G post y a c (partnerFor ps c) := by
  unfold partnerFor fst9
  by_cases h : ps.findIdx (fun p => has p.1 c) < ps.length
  · rw [if_pos h]
    rw [countsP, dif_pos h] at hp
    exact sp_counts hv hs hst he h1 h2 h hp
  · rw [if_neg h]
    rw [countsP, dif_neg h] at hp
    exact sp_counts0 hp
/-- the greatest level of those that count -/
def levelOf (ps : List Pt9) (s : St) (cs : List Int32) : Int32 := cs.foldl (fun b c => if h : ps.findIdx (fun p => has p.1 c) < ps.length then (if countsF (ps[ps.findIdx (fun p => has p.1 c)].2.2) s c then mx b (ps[ps.findIdx (fun p => has p.1 c)].2.1) else b) else b) 0
theorem levelOf_succ {ps : List Pt9} {s : St} {cs : List Int32} {k : Nat} (hk : k < cs.length) : levelOf ps s (cs.take (k + 1)) = (if h : ps.findIdx (fun p => has p.1 cs[k]) < ps.length then (if countsF (ps[ps.findIdx (fun p => has p.1 cs[k])].2.2) s cs[k] then mx (levelOf ps s (cs.take k)) (ps[ps.findIdx (fun p => has p.1 cs[k])].2.1) else levelOf ps s (cs.take k)) else levelOf ps s (cs.take k)) := by
  rw [levelOf, List.take_succ_eq_append_getElem hk, List.foldl_append]
  rfl
theorem sp_levelOf {G : GP} {y : HS} {D : LM} {a e q l1 l2 lc lr lp ll lo : Nat} {s : St} {xs : List (Option Nat)} {ps : List Pt9} {post : Int32 → HS → Prop} (hv : V G y D) (hs : snR y a e q) (hst : stR G y D q l1 l2 s) (he : eL y e lc lr lp ll lo) (h1 : D lp = some xs) (h2 : All2 (ptR y D) xs ps) (hp : post (levelOf ps s (sSecs s)) y) : wp_X4_levelOf G post y a := by
  have hs0 := hs
  have hst0 := hst
  have he0 := he
  have hlen := h2.1
  have hl := hv.len h1
  obtain ⟨fs, hfs⟩ := hv.cell h1
  obtain ⟨c0, t0, v0, w0, lf0, wy0, hs⟩ := hs
  obtain ⟨nm, wt, n1, n2, he⟩ := he
  obtain ⟨g0, ⟨xs1, a1, a2⟩, -, g4, g5, g6⟩ := hst
  obtain ⟨fs1, hfs1⟩ := hv.cell a1
  have hlen1 := a2.len
  refine ⟨fun n y' x6 x => y' = y ∧ ∃ k, x = nI k ∧ k ≤ xs1.length ∧ n = xs1.length - k ∧ x6 = levelOf ps s ((sSecs s).take k), ⟨_, rfl, 0, rfl, Nat.zero_le _, rfl, rfl⟩, ?_⟩
  rintro n y' x6 x ⟨rfl, k, rfl, hk, rfl, hx6⟩
  refine ⟨_, ⟨_, hs, rfl⟩, q, rfl, _, ⟨_, g0, rfl⟩, l1, rfl, ⟨fs1, Or.inl hfs1⟩, hv.size a1 ⟨fun hge => ?_, fun hlt => ?_⟩⟩
  · have hkl := nle_of (by omega) hk hge
    rw [List.take_of_length_le (by omega)] at hx6
    rw [hx6]
    exact hp
  · have hk2 := nlt_of (by omega) hk hlt
    have hsucc := levelOf_succ (ps := ps) (s := s) (cs := sSecs s) (k := k) (by omega)
    have hbx := a2.at k hk2 (by omega)
    have hbx0 := hbx
    obtain ⟨q2, z1, z2⟩ := hbx
    refine ⟨_, ⟨_, hs, rfl⟩, q, rfl, _, ⟨_, g0, rfl⟩, l1, rfl, ⟨fs1, Or.inl hfs1⟩, hv.get a1 hk2 ⟨hbx0.of, q2, z1, ⟨_, z2⟩, sp_intValue z2 ⟨⟨_, Or.inl hs⟩, sp_partnerOf hv hs0 he0 h1 h2 ⟨⟨_, Or.inl hs⟩, ?_⟩⟩⟩⟩
    refine sp_countsP hv hs0 hst0 he0 h1 h2 ⟨fun hb => ⟨xs1.length - (k + 1), by omega, rfl, k + 1, by rw [nI_add], by omega, rfl, ?_⟩, fun hb => ?_⟩
    · rw [hsucc, hx6]
      by_cases h : ps.findIdx (fun p => has p.1 (sSecs s)[k]) < ps.length
      · rw [countsP, dif_pos h] at hb
        rw [dif_pos h, hb]; rfl
      · rw [dif_neg h]
    · by_cases h : ps.findIdx (fun p => has p.1 (sSecs s)[k]) < ps.length
      · rw [countsP, dif_pos h] at hb
        obtain ⟨pq, sq, lb, e1, e2, e3, e5⟩ := h2.2 _ (by omega) h
        refine ⟨_, ⟨_, hs, rfl⟩, e, rfl, _, ⟨_, he, rfl⟩, lp, rfl, ⟨fs, Or.inl hfs⟩, ?_⟩
        rw [partnerFor, fst9, if_pos h]
        refine hv.get h1 (by omega) ⟨(h2.2 _ (by omega) h).of, pq, e1, _, ⟨_, e2, rfl⟩, fun x45 hx => ⟨xs1.length - (k + 1), by omega, rfl, k + 1, by rw [nI_add], by omega, rfl, ?_⟩⟩
        rw [hsucc, dif_pos h, hb, hx, hx6]
        rfl
      · rw [countsP, dif_neg h] at hb
        cases hb
