/-! Plain laws: the chapter of a stay -/
set_option maxRecDepth 100000
/-- a chapter: its name, its spans, the first node of its tree (-1: none yet) -/
abbrev Ch : Type := List Nat × List Sp × Int32
def chapterFor (cs : List Ch) (m : Int32) : Int32 := fst9 cs (fun c => anyS c.2.1 m)
/-- the chapter's object and its spans -/
def chR (y : HS) (D : LM) (r : Option Nat) (sps : List Sp) : Prop := ∃ (q l la ll : Nat) (nm tr : Option Nat), r = some q ∧ y.1 q = some (ob 7 [va_rf nm, va_rf (some l), va_rf tr, va_rf (some la), va_rf (some ll)]) ∧ spsR y D l sps
theorem chR.of {G : GP} {y : HS} {D : LM} {r : Option Nat} {sps : List Sp} (h : chR y D r sps) : isOf G y r 7 := fun w hw => by
  obtain ⟨q, l, la, ll, nm, tr, h1, h2, -⟩ := h
  cases h1.symm.trans hw
  exact ⟨_, Or.inl h2⟩
theorem sp_chapterOf {G : GP} {y : HS} {D : LM} {a e q l1 l2 lc lr lp ll lo : Nat} {s : St} {xs : List (Option Nat)} {cs : List Ch} {post : Int32 → HS → Prop} (hv : V G y D) (hs : snR y a e q) (hst : stR G y D q l1 l2 s) (he : eL y e lc lr lp ll lo) (h1 : D lc = some xs) (h2 : All2 (fun r (c : Ch) => chR y D r c.2.1) xs cs) (hp : post (chapterFor cs (sMain s)) y) : wp_X4_chapterOf G post y a := by
  obtain ⟨fs, hfs⟩ := hv.cell h1
  have hlen := h2.1
  have hl := hv.len h1
  obtain ⟨c0, t0, v0, w0, lf0, wy0, hs⟩ := hs
  obtain ⟨nm, wt, n1, n2, he⟩ := he
  obtain ⟨g0, -⟩ := hst
  refine ⟨fun n y' x => y' = y ∧ ∃ k, x = nI k ∧ k ≤ xs.length ∧ n = xs.length - k ∧ ∀ j (hj : j < cs.length), j < k → anyS cs[j].2.1 (sMain s) = false, ⟨_, rfl, 0, rfl, Nat.zero_le _, rfl, fun j _ h => absurd h (Nat.not_lt_zero _)⟩, ?_⟩
  rintro n y' x ⟨rfl, k, rfl, hk, rfl, hno⟩
  refine ⟨_, ⟨_, hs, rfl⟩, e, rfl, _, ⟨_, he, rfl⟩, lc, rfl, ⟨fs, Or.inl hfs⟩, hv.size h1 ⟨fun hge => ?_, fun hlt => ?_⟩⟩
  · have hkl := nle_of (by omega) hk hge
    have h3 := findIdx_no (xs := cs) (p := fun c => anyS c.2.1 (sMain s)) (fun j hj => hno j hj (by omega))
    rw [chapterFor, fst9, if_neg h3] at hp
    exact hp
  · have hk2 := nlt_of (by omega) hk hlt
    obtain ⟨cq, l9, la9, ll9, nm9, tr9, e1, e2, e3⟩ := h2.2 k hk2 (by omega)
    refine ⟨_, ⟨_, hs, rfl⟩, e, rfl, _, ⟨_, he, rfl⟩, lc, rfl, ⟨fs, Or.inl hfs⟩, hv.get h1 hk2 ⟨(h2.2 k hk2 (by omega)).of, cq, e1, _, ⟨_, e2, rfl⟩, _, ⟨_, hs, rfl⟩, q, rfl, _, ⟨_, g0, rfl⟩, sp_haveAny hv e3 ⟨fun hb => ⟨xs.length - (k + 1), by omega, rfl, k + 1, by rw [nI_add], by omega, rfl, fun j hj hjk => ?_⟩, fun hb => ?_⟩⟩⟩
    · by_cases hjk2 : j = k
      · subst hjk2; exact hb
      · exact hno j hj (by omega)
    · have h3 := findIdx_at (xs := cs) (p := fun c => anyS c.2.1 (sMain s)) (k := k) (by omega) hno hb
      rw [chapterFor, fst9, if_pos (by omega), h3] at hp
      exact hp
