/-! Plain laws: conditions as they are tried (43.is, turned) -/
set_option maxRecDepth 100000
theorem sp_is16 {G : GP} {y : HS} {D : LM} {cs : List Cn} {CR : Nat → Nat → Nat → Prop} {a : Nat} {an age days level top : Int32} (hv : V G y D) (hs : y.1 a = some (ob 16 [.int an, .int age, .int days, .int level, .int top])) (ho : cOk cs) (hcl : ∀ d r i, CR d r i → CS G y D cs CR d r i) :
    ∀ (d r i : Nat), CR d r i → ∀ (n : Nat) (post : Bool → HS → Prop), d < n → post (vl (evB an age days level top) cs i) y → wp_is16 G n post y a (some r) := by
  intro d
  induction d using Nat.strongRecOn with
  | _ d ih =>
    intro r i hr n post hn hp
    cases n with
    | zero => exact absurd hn (Nat.not_lt_zero _)
    | succ n =>
      show wb_X3_is_r16 G (wp_is16 G n) post y a (some r)
      rcases hcl d r i hr with ⟨k, hk, ha⟩ | ⟨d', l, p, k, rfl, h1, h2, hk, k2, hc⟩ | ⟨d', l, w9, ps, p0, rest, rfl, hw, h1, h2, h3, h4⟩
      · have ha0 := ha
        obtain ⟨ww, sp, sg, nb, c1, -, -, c4, -⟩ := ha
        rw [vl_atom hk c4] at hp
        exact ⟨true, Or.inr ⟨r, 13, _, rfl, Or.inl c1, by decide, Or.inl ⟨rfl, rfl⟩⟩, fun h => (by cases h), fun _ => ⟨fun z hz => (by cases hz; exact ⟨_, Or.inl c1⟩), ⟨_, Or.inl hs⟩, sp_holds16 hs ha0 hp⟩⟩
      · obtain ⟨fl, hfl⟩ := hv.cell h2
        rw [vl_not ho hk k2] at hp
        refine ⟨false, Or.inr ⟨r, 12, _, rfl, Or.inl h1, by decide, Or.inr ⟨by decide, by decide, rfl⟩⟩, fun _ => ⟨fun y5 r6 x7 => y5 = y ∧ r6 = some r ∧ x7 = nI 0, ?_, fun z hz => (by cases hz; exact ⟨_, Or.inl h1⟩), r, rfl, _, ⟨_, h1, rfl⟩, gK G 12, rfl, ⟨_, (srR.con (by decide) : srR G y (gK G 12) _ _).choose_spec.1⟩, sp_hash (srR.con (by decide)) (by decide +kernel) ⟨fun h => absurd h (by decide +kernel), fun _ => ⟨fun _ => ⟨⟨_, (srR.con (by decide) : srR G y (gK G 12) _ _).choose_spec.1⟩, sp_J5_equals (srR.con (by decide)) (srR.con (by decide)) (fun _ => rfl) ⟨fun hb => absurd hb (by decide +kernel), fun _ => ⟨rfl, rfl, rfl⟩⟩⟩, fun h => absurd (by decide +kernel) h⟩⟩⟩, fun h => (by cases h)⟩
        rintro y5 r6 x7 ⟨rfl, rfl, rfl⟩
        refine ⟨fun _ => ⟨r, rfl, _, ⟨_, h1, rfl⟩, l, rfl, ⟨fl, Or.inl hfl⟩, hv.get h2 (i := 0) (by simp) ⟨⟨_, Or.inl hs⟩, ih d' (by omega) p _ hc n _ (by omega) ⟨fun hb => ?_, fun hb => ?_⟩⟩⟩, fun h => absurd rfl h⟩
        · rw [hb] at hp; exact hp
        · rw [hb] at hp; exact hp
      · obtain ⟨fl, hfl⟩ := hv.cell h2
        have hlen : ps.length = (p0 :: rest).length := h3.1
        have hl := hv.len h2
        rw [List.length_map] at hl
        have hpart : ∀ (j : Nat) (hj : j < ps.length) (hj2 : j < (p0 :: rest).length) (post2 : Bool → HS → Prop), post2 (vl (evB an age days level top) cs (p0 :: rest)[j]) y → wp_is16 G n post2 y a (some ps[j]) := fun j hj hj2 post2 hp2 => ih d' (by omega) _ _ (h3.2 j hj hj2) n post2 (by omega) hp2
        have hw2 : w9 = 0 ∨ w9 = 1 := by omega
        rcases hw2 with rfl | rfl
        · rw [ch_or ho rest p0 i h4] at hp
          replace hp : post ((p0 :: rest).any (fun r => vl (evB an age days level top) cs r)) y := hp
          refine ⟨false, Or.inr ⟨r, 12, _, rfl, Or.inl h1, by decide, Or.inr ⟨by decide, by decide, rfl⟩⟩, fun _ => ⟨fun y5 r6 x7 => y5 = y ∧ r6 = some r ∧ x7 = -1, ?_, fun z hz => (by cases hz; exact ⟨_, Or.inl h1⟩), r, rfl, _, ⟨_, h1, rfl⟩, gK G 13, rfl, ⟨_, (srR.con (by decide) : srR G y (gK G 13) _ _).choose_spec.1⟩, sp_hash (srR.con (by decide)) (by decide +kernel) ⟨fun h => absurd h (by decide +kernel), fun _ => ⟨fun h => absurd h (by decide +kernel), fun _ => ⟨rfl, rfl, rfl⟩⟩⟩⟩, fun h => (by cases h)⟩
          rintro y5 r6 x7 ⟨rfl, rfl, rfl⟩
          refine ⟨fun h => absurd h (by decide), fun _ => ⟨fun h => absurd h (by decide), fun _ => ?_⟩⟩
          refine ⟨fun n y' x => y' = y5 ∧ ∃ k, x = nI k ∧ k ≤ ps.length ∧ n = ps.length - k ∧ ∀ j (hj : j < (p0 :: rest).length), j < k → vl (evB an age days level top) cs (p0 :: rest)[j] = false, ⟨_, rfl, 0, rfl, Nat.zero_le _, rfl, fun j _ h => absurd h (Nat.not_lt_zero _)⟩, ?_⟩
          rintro n9 y' x ⟨rfl, k, rfl, hk, rfl, hno⟩
          refine ⟨r, rfl, _, ⟨_, h1, rfl⟩, l, rfl, ⟨fl, Or.inl hfl⟩, hv.size h2 ?_⟩
          rw [List.length_map]
          refine ⟨fun hge => ?_, fun hlt => ?_⟩
          · have hkl := nle_of (by omega) hk hge
            rw [any_no (fun j hj => hno j hj (by omega))] at hp
            exact hp
          · have hk2 := nlt_of (by omega) hk hlt
            refine ⟨_, ⟨_, h1, rfl⟩, l, rfl, ⟨fl, Or.inl hfl⟩, hv.get h2 (i := k) (by simp; exact hk2) ⟨⟨_, Or.inl hs⟩, ?_⟩⟩
            rw [List.getElem_map]
            refine hpart k hk2 (by omega) _ ⟨fun hb => ⟨ps.length - (k + 1), by omega, rfl, k + 1, by rw [nI_add], by omega, rfl, fun j hj hjk => ?_⟩, fun hb => ?_⟩
            · by_cases hjk2 : j = k
              · subst hjk2; exact hb
              · exact hno j hj (by omega)
            · rw [any_yes (k := k) (by omega) hb] at hp
              exact hp
        · rw [ch_and ho rest p0 i h4] at hp
          replace hp : post ((p0 :: rest).all (fun r => vl (evB an age days level top) cs r)) y := hp
          refine ⟨false, Or.inr ⟨r, 12, _, rfl, Or.inl h1, by decide, Or.inr ⟨by decide, by decide, rfl⟩⟩, fun _ => ⟨fun y5 r6 x7 => y5 = y ∧ r6 = some r ∧ x7 = nI 1, ?_, fun z hz => (by cases hz; exact ⟨_, Or.inl h1⟩), r, rfl, _, ⟨_, h1, rfl⟩, gK G 1, rfl, ⟨_, (srR.con (by decide) : srR G y (gK G 1) _ _).choose_spec.1⟩, sp_hash (srR.con (by decide)) (by decide +kernel) ⟨fun _ => ⟨⟨_, (srR.con (by decide) : srR G y (gK G 1) _ _).choose_spec.1⟩, sp_J5_equals (srR.con (by decide)) (srR.con (by decide)) (fun _ => rfl) ⟨fun hb => absurd hb (by decide +kernel), fun _ => ⟨rfl, rfl, rfl⟩⟩⟩, fun h => absurd (by decide +kernel) h⟩⟩, fun h => (by cases h)⟩
          rintro y5 r6 x7 ⟨rfl, rfl, rfl⟩
          refine ⟨fun h => absurd h (by decide), fun _ => ⟨fun _ => ?_, fun h => absurd rfl h⟩⟩
          refine ⟨fun n y' x => y' = y5 ∧ ∃ k, x = nI k ∧ k ≤ ps.length ∧ n = ps.length - k ∧ ∀ j (hj : j < (p0 :: rest).length), j < k → vl (evB an age days level top) cs (p0 :: rest)[j] = true, ⟨_, rfl, 0, rfl, Nat.zero_le _, rfl, fun j _ h => absurd h (Nat.not_lt_zero _)⟩, ?_⟩
          rintro n9 y' x ⟨rfl, k, rfl, hk, rfl, hno⟩
          refine ⟨r, rfl, _, ⟨_, h1, rfl⟩, l, rfl, ⟨fl, Or.inl hfl⟩, hv.size h2 ?_⟩
          rw [List.length_map]
          refine ⟨fun hge => ?_, fun hlt => ?_⟩
          · have hkl := nle_of (by omega) hk hge
            have : (p0 :: rest).all (fun r => vl (evB an age days level top) cs r) = true := by
              rw [List.all_eq_true]
              intro x hx
              obtain ⟨j, hj, e⟩ := List.getElem_of_mem hx
              rw [← e]; exact hno j hj (by omega)
            rw [this] at hp
            exact hp
          · have hk2 := nlt_of (by omega) hk hlt
            refine ⟨_, ⟨_, h1, rfl⟩, l, rfl, ⟨fl, Or.inl hfl⟩, hv.get h2 (i := k) (by simp; exact hk2) ⟨⟨_, Or.inl hs⟩, ?_⟩⟩
            rw [List.getElem_map]
            refine hpart k hk2 (by omega) _ ⟨fun hb => ⟨ps.length - (k + 1), by omega, rfl, k + 1, by rw [nI_add], by omega, rfl, fun j hj hjk => ?_⟩, fun hb => ?_⟩
            · by_cases hjk2 : j = k
              · subst hjk2; exact hb
              · exact hno j hj (by omega)
            · have : (p0 :: rest).all (fun r => vl (evB an age days level top) cs r) = false := by
                rw [List.all_eq_false]
                exact ⟨_, List.getElem_mem (show k < (p0 :: rest).length by omega), by rw [hb]; exact fun z => by cases z⟩
              rw [this] at hp
              exact hp
