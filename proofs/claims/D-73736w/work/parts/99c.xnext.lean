/-! The component's reader: the next token -/
set_option maxRecDepth 100000
/-- what the next token costs -/
def cN (bs : List Nat) (p : Nat) : Nat := match bs[skp bs p]? with
  | none => 0
  | some c => if isLd c then 4 else 0
theorem sg_128 {c : Nat} (h : isSg c = true) : c < 128 := by have := sg_lt h; omega
theorem xl_sign {G : GP} {y : HS} {c k : Nat} {post : Option Nat → HS → Prop} (hc : c < 128) (hp : post (some (gC G c)) y) : wp_J14_valueOf G k post y (nI c) := by
  refine ⟨fun z => absurd ((nI_ltI (by omega) (by omega)).mp z) (by omega), fun _ => ⟨vp_inN hc (by omega), ?_⟩⟩
  rw [nI_clamp (by omega)]
  exact hp
theorem xl_next {G : GP} {y : HS} {R e X tp p at_ op ln B : Nat} {tok ch : Option Nat} {en : Int32} {bs : List Nat} {post : HS → Prop} (hw : WF G y) (h : rdO y R bs.length e X p at_ tok en op ln ch) (ht : tpX y X tp bs) (hpl : p ≤ bs.length) (hXR : X ≠ R) (hTR : tp ≠ R) (hB : cN bs p ≤ B)
    (hp : ∀ y' tok', WF G y' → rdO y' R bs.length e X (lex bs p).2.2 (lex bs p).1 tok' (if (lex bs p).2.1.1 = 0 then 1 else 0) op ln ch → TkX G y' tok' (lex bs p).2.1 → (∀ a, a < y.2 → a ≠ R → y'.1 a = y.1 a) → y.2 ≤ y'.2 → (∀ q, tok' = some q → (lex bs p).2.1.1 = 2 → y.2 ≤ q) → post y') : wp_X6_next G B post y R := by
  have hlen := ht.2.2.1
  have hb256 := ht.2.2.2
  have hsk := skp_le hpl
  have hsg := skp_ge bs p
  have lR := hw.lt h
  have lX : X < y.2 := by obtain ⟨⟨fs, a1⟩, _⟩ := ht; exact hw.lt a1
  have lT : tp < y.2 := by obtain ⟨_, ⟨g, a2, _⟩, _⟩ := ht; exact hw.lt a2
  refine ⟨fun n y' u => ∃ q, p ≤ q ∧ q ≤ skp bs p ∧ n = skp bs p - q ∧ u = 0 ∧ WF G y' ∧ rdO y' R bs.length e X q at_ tok en op ln ch ∧ (∀ a, a ≠ R → y'.1 a = y.1 a) ∧ y'.2 = y.2, ⟨_, p, Nat.le_refl _, hsg, rfl, rfl, hw, h, fun _ _ => rfl, rfl⟩, ?_⟩
  rintro n2 y3 u6 ⟨q, hq1, hq2, hn, rfl, w3, R3, f3, n3⟩
  have rd3 : ∃ fs, rd G y3 R (ob 4 fs) := ⟨_, Or.inl R3⟩
  have t3 : tpX y3 X tp bs := ht.same (f3 X hXR) (f3 tp hTR)
  have stepP : q < skp bs p → ∃ f12, fI y3 R 4 2 f12 ∧ ∃ fs14, y3.1 R = some (ob 4 fs14) ∧ 2 < fs14.length ∧ ∀ y13, y13 = hput y3 R (ob 4 (fs14.set 2 (.int (f12 + (nI 1))))) → ∃ n15, n15 < n2 ∧ ∃ q', p ≤ q' ∧ q' ≤ skp bs p ∧ n15 = skp bs p - q' ∧ 0 = 0 ∧ WF G y13 ∧ rdO y13 R bs.length e X q' at_ tok en op ln ch ∧ (∀ a, a ≠ R → y13.1 a = y.1 a) ∧ y13.2 = y.2 := by
    intro hlt
    refine ⟨_, ⟨_, R3, rfl⟩, _, R3, by show 2 < 10; omega, fun y13 hy13 => ⟨skp bs p - (q + 1), by omega, q + 1, by omega, by omega, rfl, rfl, ?_, ?_, fun a ha => ?_, ?_⟩⟩
    · rw [hy13]; exact w3.put R3
    · rw [hy13]; exact R3.p
    · rw [hy13, hput_ne ha]; exact f3 a ha
    · rw [hy13]; exact n3
  refine ⟨Nat.zero_le _, rd3, xl_here R3 t3 (by omega) ?_⟩
  rcases Nat.lt_or_ge q (skp bs p) with hlt | hge
  · obtain ⟨c, hc, hcw⟩ := skp_in hq1 hlt
    have hby : byI bs q = nI c := by unfold byI; rw [hc]
    refine ⟨fun _ => stepP hlt, fun h32 => ⟨rd3, xl_here R3 t3 (by omega) ⟨fun h10 => ?_, fun _ => stepP hlt⟩⟩⟩
    rw [hby] at h32 h10
    unfold isWs at hcw
    simp only [Bool.or_eq_true, beq_iff_eq] at hcw
    rcases hcw with w | w
    · exact absurd (by rw [w]) h32
    · exact absurd (by rw [w]) h10
  · have eq : q = skp bs p := by omega
    subst eq
    have nws : byI bs (skp bs p) ≠ nI 32 ∧ byI bs (skp bs p) ≠ nI 10 := by
      unfold byI
      cases hc : bs[skp bs p]? with
      | none => exact ⟨by decide, by decide⟩
      | some c =>
        have h1 := skp_stop hc
        have h2 := lt256 hb256 hc
        unfold isWs at h1
        simp only [Bool.or_eq_false_iff, beq_eq_false_iff_ne] at h1
        exact ⟨nI_ne h1.1 (by omega) (by omega), nI_ne h1.2 (by omega) (by omega)⟩
    refine ⟨fun z => absurd z nws.1, fun _ => ⟨rd3, xl_here R3 t3 (by omega) ⟨fun _ => ?_, fun z => absurd z nws.2⟩⟩⟩
    generalize hk : skp bs p = k at *
    refine ⟨fun y' u x b r => u = 0 ∧ x = byI bs k ∧ b = decide (bs[k]? = none) ∧ r = some R ∧ WF G y' ∧ rdO y' R bs.length e X k k tok en op ln ch ∧ (∀ a, a ≠ R → y'.1 a = y.1 a) ∧ y'.2 = y.2, ?_, ?_⟩
    · rintro y22 u26 x23 b24 r25 ⟨rfl, hx23, hb24, rfl, w22, R22, f22, n22⟩
      refine ⟨Nat.zero_le _, R, rfl, _, R22, by show 5 < 10; omega, fun y28 hy28 => ?_⟩
      have R28 : rdO y28 R bs.length e X k k tok (bi b24) op ln ch := by
        unfold rdO
        rw [hy28, hput_at]
        rfl
      have w28 : WF G y28 := by rw [hy28]; exact w22.put R22
      refine ⟨_, R28, by show 4 < 10; omega, fun y30 hy30 => ?_⟩
      have R30 : rdO y30 R bs.length e X k k none (bi b24) op ln ch := by rw [hy30]; exact R28.tk
      have w30 : WF G y30 := by rw [hy30]; exact w28.put R28
      have f30 : ∀ a, a ≠ R → y30.1 a = y.1 a := fun a ha => by rw [hy30, hput_ne ha, hy28, hput_ne ha]; exact f22 a ha
      have n30 : y30.2 = y.2 := by rw [hy30, hput_2, hy28, hput_2]; exact n22
      have t30 : tpX y30 X tp bs := ht.same (f30 X hXR) (f30 tp hTR)
      have rd30 : ∃ fs, rd G y30 R (ob 4 fs) := ⟨_, Or.inl R30⟩
      refine ⟨_, ⟨_, R30, rfl⟩, fun z0 => ?_, fun z0 => ?_⟩
      · cases hc : bs[k]? with
        | none =>
          rw [hc] at hb24
          rw [hb24] at z0
          exact absurd z0 (by decide)
        | some c =>
          have hc' : bs[skp bs p]? = some c := by rw [hk]; exact hc
          have hcb := lt256 hb256 hc
          have hby : byI bs k = nI c := by unfold byI; rw [hc]
          have hen : bi b24 = 0 := z0
          rw [hen] at R30
          have lt : k < bs.length := (List.getElem?_eq_some_iff.mp hc).1
          have run : isLd c = true → ∃ k40, 0 + k40 ≤ B ∧ wp_X6_runs G k40 (fun y38 => post y38) y30 R := by
            intro hl
            have h4 : 4 ≤ B := by
              unfold cN at hB
              rw [hk, hc] at hB
              simpa [hl] using hB
            refine ⟨4, by omega, xl_runs w30 R30 t30 hsk hXR hTR (rnn_pos hc hl) (by omega) (fun y' tok' w' R' T' f' n' q' => hp y' tok' w' ?_ ?_ (fun a ha hne => ?_) (by omega) (fun q z1 z2 => ?_))⟩
            · rw [lex_run hc' hl, hk]
              have hb := (tkO_b (r := rnn bs k) rnn_ld (rnn_pos hc hl)).1
              show rdO y' R bs.length e X (k + (rnn bs k).length) k tok' (if (tkO (rnn bs k)).1 = 0 then 1 else 0) op ln ch
              rw [if_neg hb]
              exact R'
            · rw [lex_run hc' hl, hk]; exact T'
            · rw [f' a (by omega) hne]; exact f30 a hne
            · rw [lex_run hc' hl, hk] at z2
              have := q' q z1 z2
              omega
          have no : isLd c = false → (∃ J49 : HS → Nat → Prop, (∀ (y51 : HS) (u52 : Nat), J49 y51 u52 → u52 ≤ B ∧ ∃ k55, u52 + k55 ≤ B ∧ wp_J14_valueOf G k55 (fun r54 y53 => ∃ fs57, y53.1 R = some (ob 4 fs57) ∧ 4 < fs57.length ∧ ∀ y56, y56 = hput y53 R (ob 4 (fs57.set 4 (va_rf r54))) → post y56) y51 ((x23.toUInt32 % 65536).toInt32)) ∧ (∃ f58, fI y30 R 4 2 f58 ∧ ∃ fs60, y30.1 R = some (ob 4 fs60) ∧ 2 < fs60.length ∧ ∀ y59, y59 = hput y30 R (ob 4 (fs60.set 2 (.int (f58 + (nI 1))))) → (x23 = (nI 40) → J49 y59 0 ) ∧ (¬ x23 = (nI 40) → (x23 = (nI 41) → J49 y59 0 ) ∧ (¬ x23 = (nI 41) → (x23 = (nI 44) → J49 y59 0 ) ∧ (¬ x23 = (nI 44) → (x23 = (nI 59) → J49 y59 0 ) ∧ (¬ x23 = (nI 59) → (x23 = (nI 60) → J49 y59 0 ) ∧ (¬ x23 = (nI 60) → (¬ x23 = (nI 62) → post y59) ∧ (x23 = (nI 62) → J49 y59 0 )))))))) := by
            intro hl
            have ex : x23 = nI c := hx23.trans hby
            refine ⟨fun y' u => u = 0 ∧ isSg c = true ∧ WF G y' ∧ rdO y' R bs.length e X (k + 1) k none 0 op ln ch ∧ (∀ a, a ≠ R → y'.1 a = y.1 a) ∧ y'.2 = y.2, ?_, _, ⟨_, R30, rfl⟩, _, R30, by show 2 < 10; omega, fun y59 hy59 => ?_⟩
            · rintro y51 u52 ⟨rfl, hs, w51, R51, f51, n51⟩
              refine ⟨Nat.zero_le _, 0, Nat.zero_le _, ?_⟩
              rw [ex, chu c (sg_128 hs)]
              refine xl_sign (sg_128 hs) ⟨_, R51, by show 4 < 10; omega, fun y56 hy56 => hp y56 (some (gC G c)) ?_ ?_ ?_ (fun a ha hne => ?_) ?_ (fun q _ z => absurd z (by rw [lex_sg hc' hl hs]; exact (by decide : (4 : Nat) ≠ 2)))⟩
              · rw [hy56]; exact w51.put R51
              · rw [lex_sg hc' hl hs, hk, hy56]; exact R51.tk
              · rw [lex_sg hc' hl hs, hk]
                exact Or.inr (Or.inr (Or.inr (Or.inr ⟨rfl, sg_128 hs, rfl⟩)))
              · rw [hy56, hput_ne hne]; exact f51 a hne
              · rw [hy56, hput_2, n51]; exact Nat.le_refl _
            · have R59 : rdO y59 R bs.length e X (k + 1) k none 0 op ln ch := by rw [hy59]; exact R30.p
              have w59 : WF G y59 := by rw [hy59]; exact w30.put R30
              have f59 : ∀ a, a ≠ R → y59.1 a = y.1 a := fun a ha => by rw [hy59, hput_ne ha]; exact f30 a ha
              have n59 : y59.2 = y.2 := by rw [hy59, hput_2]; exact n30
              have J : isSg c = true → (0 = 0 ∧ isSg c = true ∧ WF G y59 ∧ rdO y59 R bs.length e X (k + 1) k none 0 op ln ch ∧ (∀ a, a ≠ R → y59.1 a = y.1 a) ∧ y59.2 = y.2) := fun hs => ⟨rfl, hs, w59, R59, f59, n59⟩
              have cs : ∀ m, m < 256 → x23 = nI m → c = m := fun m hm z => (nI_eq (by omega) (by omega)).mp (ex.symm.trans z)
              refine ⟨fun z => J (by rw [cs 40 (by omega) z]; decide), fun h40 => ⟨fun z => J (by rw [cs 41 (by omega) z]; decide), fun h41 => ⟨fun z => J (by rw [cs 44 (by omega) z]; decide), fun h44 => ⟨fun z => J (by rw [cs 59 (by omega) z]; decide), fun h59 => ⟨fun z => J (by rw [cs 60 (by omega) z]; decide), fun h60 => ⟨fun h62 => ?_, fun z => J (by rw [cs 62 (by omega) z]; decide)⟩⟩⟩⟩⟩⟩
              have hns : isSg c = false := by
                rw [Bool.eq_false_iff]
                intro w
                rcases sg_cs w with w | w | w | w | w | w
                · exact h40 (by rw [ex, w])
                · exact h41 (by rw [ex, w])
                · exact h44 (by rw [ex, w])
                · exact h59 (by rw [ex, w])
                · exact h60 (by rw [ex, w])
                · exact h62 (by rw [ex, w])
              refine hp y59 none w59 ?_ ?_ (fun a ha hne => f59 a hne) (by omega) (fun q z => by cases z)
              · rw [lex_bad hc' hl hns, hk]; exact R59
              · rw [lex_bad hc' hl hns, hk]; exact Or.inl ⟨Or.inr rfl, rfl⟩
          have eL : isLtQ bs k = isLt c := by unfold isLtQ; rw [hc]
          have eD : isDgQ bs k = isDg c := by unfold isDgQ; rw [hc]
          refine ⟨fun y' u => y' = y30 ∧ u = 0 ∧ isLd c = true, ?_, rd30, ?_⟩
          · rintro y36 u37 ⟨rfl, rfl, hl⟩
            exact ⟨Nat.zero_le _, rd30, run hl⟩
          · have no' := no
            rw [hx23] at no' ⊢
            refine xl_letter hb256 ⟨fun hb => ⟨rfl, rfl, ?_⟩, fun hb => ⟨rd30, xl_digit hb256 ⟨fun hd => no' ?_, fun hd => ⟨rfl, rfl, ?_⟩⟩⟩⟩
            · rw [eL] at hb; unfold isLd; rw [hb]; rfl
            · rw [eL] at hb; rw [eD] at hd; unfold isLd; rw [hb, hd]; rfl
            · rw [eD] at hd; unfold isLd; rw [hd, Bool.or_true]
      · cases hc : bs[k]? with
        | some c =>
          rw [hc] at hb24
          rw [hb24, decide_eq_false (fun w => by cases w)] at z0
          exact absurd rfl z0
        | none =>
          have hc' : bs[skp bs p]? = none := by rw [hk]; exact hc
          rw [hc] at hb24
          have hen : bi b24 = 1 := by rw [hb24]; decide
          rw [hen] at R30
          refine hp y30 none w30 ?_ ?_ (fun a ha hne => f30 a hne) (by omega) (fun q z => by cases z)
          · rw [lex_none hc', hk]; exact R30
          · rw [lex_none hc', hk]; exact Or.inl ⟨Or.inl rfl, rfl⟩
    · refine ⟨_, ⟨_, R3, rfl⟩, _, R3, by show 3 < 10; omega, fun y70 hy70 => ?_⟩
      have R70 : rdO y70 R bs.length e X k k tok en op ln ch := by
        unfold rdO
        rw [hy70, hput_at]
        rfl
      have w70 : WF G y70 := by rw [hy70]; exact w3.put R3
      have f70 : ∀ a, a ≠ R → y70.1 a = y.1 a := fun a ha => by rw [hy70, hput_ne ha]; exact f3 a ha
      have n70 : y70.2 = y.2 := by rw [hy70]; exact n3
      have t70 : tpX y70 X tp bs := ht.same (f70 X hXR) (f70 tp hTR)
      refine ⟨⟨_, Or.inl R70⟩, xl_here R70 t70 (by omega) ?_⟩
      cases hc : bs[k]? with
      | none =>
        have hby : byI bs k = -1 := by unfold byI; rw [hc]
        refine ⟨fun z => absurd (by rw [hby] at z; exact z) (by decide), fun _ => ⟨rfl, rfl, rfl, rfl, w70, R70, f70, n70⟩⟩
      | some c =>
        have hby : byI bs k = nI c := by unfold byI; rw [hc]
        have hcb := lt256 hb256 hc
        refine ⟨fun _ => ⟨rfl, rfl, rfl, rfl, w70, R70, f70, n70⟩, fun z => absurd (by rw [hby]; exact nI_pos' (by omega)) z⟩
