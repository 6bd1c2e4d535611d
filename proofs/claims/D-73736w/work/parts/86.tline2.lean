/-! The model's parser: chapters and partners -/
set_option maxRecDepth 100000
theorem RepT.addCh {σ : TS} {c : Nat} {E : Ed} {w : List Nat} {sps : List Sp} {v : Int32} (h : RepT σ c E) (hn : (eCh E).length < 6) (g1 : sg σ 4 (6 * c + (eCh E).length) = pk w) (g2 : sf σ 5 (6 * c + (eCh E).length) = nI sps.length) (hl : sps.length ≤ 3) (g3 : spsT σ 6 7 (3 * (6 * c + (eCh E).length)) sps) (g4 : sf σ 8 (6 * c + (eCh E).length) = v) : RepT (uf σ 3 (7 * c) (nI ((eCh E).length + 1))) c (uCh E (eCh E ++ [(w, sps, v)])) := by
  obtain ⟨hd, ⟨a1, a2, a3⟩, b1, c1, d1, e1, f1⟩ := h
  refine ⟨hd, ⟨?_, ?_, fun k hk => ?_⟩, ⟨?_, b1.2⟩, ⟨?_, c1.2⟩, ⟨?_, d1.2⟩, ⟨?_, e1.2⟩, ⟨?_, f1.2⟩⟩
  · rw [sf_uf, if_pos ⟨rfl, rfl⟩]; show _ = nI (eCh E ++ [(w, sps, v)]).length; rw [List.length_append]; rfl
  · show (eCh E ++ [(w, sps, v)]).length ≤ 6; rw [List.length_append, List.length_singleton]; omega
  · have hk' : k < (eCh E ++ [(w, sps, v)]).length := hk
    show sg σ 4 _ = pk (eCh E ++ [(w, sps, v)])[k].1 ∧ sf σ 5 _ = nI (eCh E ++ [(w, sps, v)])[k].2.1.length ∧ (eCh E ++ [(w, sps, v)])[k].2.1.length ≤ 3 ∧ spsT σ 6 7 _ (eCh E ++ [(w, sps, v)])[k].2.1 ∧ sf σ 8 _ = (eCh E ++ [(w, sps, v)])[k].2.2
    rw [List.length_append, List.length_singleton] at hk'
    rcases Nat.lt_or_ge k (eCh E).length with z | z
    · simp only [List.getElem_append_left z]; exact a3 k z
    · have : k = (eCh E).length := by omega
      subst this
      simp only [List.getElem_append_right (Nat.le_refl _), Nat.sub_self, List.getElem_singleton]
      exact ⟨g1, g2, hl, g3, g4⟩
  · rw [sf_uf, if_neg (by omega)]; exact b1.1
  · rw [sf_uf, if_neg (by omega)]; exact c1.1
  · rw [sf_uf, if_neg (by omega)]; exact d1.1
  · rw [sf_uf, if_neg (by omega)]; exact e1.1
  · rw [sf_uf, if_neg (by omega)]; exact f1.1
theorem RepT.addPt {σ : TS} {c : Nat} {E : Ed} {sp : Sp} {v : Int32} {sps : List Sp} (h : RepT σ c E) (hn : (ePt E).length < 10) (g1 : sf σ 12 (10 * c + (ePt E).length) = sp.1) (g2 : sf σ 13 (10 * c + (ePt E).length) = sp.2) (g3 : sf σ 14 (10 * c + (ePt E).length) = v) (g4 : sf σ 15 (10 * c + (ePt E).length) = nI sps.length) (hl : sps.length ≤ 3) (g5 : spsT σ 16 17 (3 * (10 * c + (ePt E).length)) sps) : RepT (uf σ 3 (7 * c + 2) (nI ((ePt E).length + 1))) c (uPt E (ePt E ++ [(sp, v, sps)])) := by
  obtain ⟨hd, a1, b1, ⟨c1, c2, c3⟩, d1, e1, f1⟩ := h
  refine ⟨hd, ⟨?_, a1.2⟩, ⟨?_, b1.2⟩, ⟨?_, ?_, fun k hk => ?_⟩, ⟨?_, d1.2⟩, ⟨?_, e1.2⟩, ⟨?_, f1.2⟩⟩
  · rw [sf_uf, if_neg (by omega)]; exact a1.1
  · rw [sf_uf, if_neg (by omega)]; exact b1.1
  · rw [sf_uf, if_pos ⟨rfl, rfl⟩]; show _ = nI (ePt E ++ [(sp, v, sps)]).length; rw [List.length_append]; rfl
  · show (ePt E ++ [(sp, v, sps)]).length ≤ 10; rw [List.length_append, List.length_singleton]; omega
  · have hk' : k < (ePt E ++ [(sp, v, sps)]).length := hk
    show sf σ 12 _ = (ePt E ++ [(sp, v, sps)])[k].1.1 ∧ sf σ 13 _ = (ePt E ++ [(sp, v, sps)])[k].1.2 ∧ sf σ 14 _ = (ePt E ++ [(sp, v, sps)])[k].2.1 ∧ sf σ 15 _ = nI (ePt E ++ [(sp, v, sps)])[k].2.2.length ∧ (ePt E ++ [(sp, v, sps)])[k].2.2.length ≤ 3 ∧ spsT σ 16 17 _ (ePt E ++ [(sp, v, sps)])[k].2.2
    rw [List.length_append, List.length_singleton] at hk'
    rcases Nat.lt_or_ge k (ePt E).length with z | z
    · simp only [List.getElem_append_left z]; exact c3 k z
    · have : k = (ePt E).length := by omega
      subst this
      simp only [List.getElem_append_right (Nat.le_refl _), Nat.sub_self, List.getElem_singleton]
      exact ⟨g1, g2, g3, g4, hl, g5⟩
  · rw [sf_uf, if_neg (by omega)]; exact d1.1
  · rw [sf_uf, if_neg (by omega)]; exact e1.1
  · rw [sf_uf, if_neg (by omega)]; exact f1.1
theorem spsT.nf {σ σ' : TS} {k1 k2 b : Nat} {sps : List Sp} (h : spsT σ k1 k2 b sps) (n : NF σ σ') : spsT σ' k1 k2 b sps := fun j hj => by rw [n.2.2, n.2.2]; exact h j hj
theorem spsT.add {σ : TS} {k1 k2 b : Nat} {sps : List Sp} {sp : Sp} (h : spsT σ k1 k2 b sps) (hk : k1 ≠ k2) : spsT (uf (uf σ k1 (b + sps.length) sp.1) k2 (b + sps.length) sp.2) k1 k2 b (sps ++ [sp]) := by
  intro j hj
  rw [List.length_append, List.length_singleton] at hj
  rcases Nat.lt_or_ge j sps.length with z | z
  · simp only [List.getElem_append_left z]
    rw [sf_uf, if_neg (by omega), sf_uf, if_neg (by omega), sf_uf, if_neg (by omega), sf_uf, if_neg (by omega)]
    exact h j z
  · have : j = sps.length := by omega
    subst this
    simp only [List.getElem_append_right (Nat.le_refl _), Nat.sub_self, List.getElem_singleton]
    rw [sf_uf, if_neg (by omega), sf_uf, if_pos ⟨rfl, rfl⟩, sf_uf, if_pos ⟨rfl, rfl⟩]
    exact ⟨rfl, rfl⟩
/-- the place of a chapter's name -/
theorem tn_chapterOf {bs : List Nat} {σ : TS} {c : Nat} {E : Ed} {w : List Nat} {post : Int32 → TS → Prop} (hR : RepT σ c E) (h31 : sx σ 31 = nI c) (hn : ∀ c ∈ eCh E, isNm c.1) (hw : isNm w) (hp : post (if chI E w < (eCh E).length then nI (chI E w) else -1) σ) : wp_chapterOf post σ (pk w) := by
  obtain ⟨hc, ⟨a1, a2, a3⟩, -⟩ := hR
  have hle : chI E w ≤ (eCh E).length := List.findIdx_le_length
  refine ⟨fun n z x => ∃ j, j ≤ chI E w ∧ n = (eCh E).length - j ∧ z = σ ∧ x = nI j, ⟨_, 0, Nat.zero_le _, rfl, rfl, rfl⟩, ?_⟩
  rintro n2 z3 x6 ⟨j, hj, hnn, rfl, hx⟩
  unfold wp_chapters
  have e7 : nI 7 * nI c = nI (7 * c) := nI_mul 7 c
  rw [h31, e7, nI_clamp (by omega), a1, hx]
  refine ⟨vp_inN (by omega) (by omega), fun z => ?_, fun z => ?_⟩
  · have : (eCh E).length ≤ j := (nI_leI (by omega) (by omega)).mp z
    rw [if_neg (by omega)] at hp
    exact hp
  · have hlt : j < (eCh E).length := by
      rcases Nat.lt_or_ge j (eCh E).length with y | y
      · exact y
      · exact absurd (nI_le y (by omega)) z
    have e6 : nI 6 * nI c + nI j = nI (6 * c + j) := by rw [nI_mul, nI_add]
    rw [h31, e6, nI_clamp (by omega), (a3 j hlt).1]
    have inj := pk_inj (hn _ (List.getElem_mem hlt)) hw
    refine ⟨vp_inN (by omega) (by omega), fun y => ?_, fun y => ?_⟩
    · have hne : ¬ (eCh E)[j].1 = w := fun v => y (inj.mpr v)
      have : j ≠ chI E w := by
        intro v
        have hl : chI E w < (eCh E).length := by omega
        have := List.findIdx_getElem (w := (show (eCh E).findIdx (fun c => decide (c.1 = w)) < (eCh E).length from hl))
        have h2 := of_decide_eq_true this
        apply hne
        have : (eCh E)[j] = (eCh E)[(eCh E).findIdx (fun c => decide (c.1 = w))] := by congr 1
        rw [this]
        exact h2
      exact ⟨(eCh E).length - (j + 1), by omega, j + 1, by omega, rfl, rfl, nI_add j 1⟩
    · have he : (eCh E)[j].1 = w := inj.mp y
      have : chI E w ≤ j := by
        rcases Nat.lt_or_ge j (chI E w) with v | v
        · exact absurd (decide_eq_true he) (Bool.eq_false_iff.mp (List.not_of_lt_findIdx v))
        · exact v
      have ej : j = chI E w := by omega
      rw [if_pos (by omega), ← ej] at hp
      exact hp
theorem pSpans_step {bs : List Nat} {acc : List Sp} {q : PS} (h : acc.length ≤ 3) : pSpans bs (4 - acc.length) acc q = bnd (pSpan bs false (decide (acc.length = 3)) q) (fun r => if isS r.2 44 = true then pSpans bs (3 - acc.length) (acc ++ [r.1]) (nxt bs r.2) else .ok (acc ++ [r.1], r.2)) := by
  rw [show 4 - acc.length = (3 - acc.length) + 1 by omega]
  rfl
theorem tl_chapter {c : Nat} {σ0 : TS} {bs : List Nat} {σ : TS} {s : PS} {post : TS → Prop} (h : TPk c σ0 bs σ s) (hp : ∀ σ', OT c σ0 bs σ' (bnd (pChapter bs s) pEnds) → post σ') : wp_chapterLine post σ := by
  obtain ⟨hF, hL, hR, h31, hn⟩ := h
  have hc := hR.1
  have hcnt := hR.2.1.1
  have hle := hR.2.1.2.1
  generalize hRes : bnd (pChapter bs s) pEnds = R at hp
  have e7 : nI 7 * nI c = nI (7 * c) := nI_mul 7 c
  have bad : ∀ z f, PF c σ0 z → FL z f → R = .error f → post z := by
    intro z f n g e
    refine hp z ?_
    rw [e]
    exact ⟨n, g⟩
  refine ⟨fun z x => x = nI (eCh (pE s)).length ∧ ((z = σ ∧ ¬ (eCh (pE s)).length = 6) ∨ (PF c σ0 z ∧ ∃ f, FL z f ∧ R = .error f)), ?_, ?_⟩
  · rintro z3 x4 ⟨hx4, hz3⟩
    refine ⟨fun z w => (NF σ z ∧ LK bs z (nxt bs s).1 ∧ ¬ (eCh (pE s)).length = 6 ∧ w = pk (pW (nxt bs s)) ∧ nameOk (nxt bs s) = true ∧ isNm (pW (nxt bs s)) ∧ ¬ chI (pE s) (pW (nxt bs s)) < (eCh (pE s)).length) ∨ (PF c σ0 z ∧ ∃ f, FL z f ∧ R = .error f), ?_, ?_⟩
    · rintro z7 w8 (⟨n7, L7, k1, hw8, k2, k3, k4⟩ | ⟨n, f, g, e⟩)
      · have eP : pChapter bs s = bnd (pSpans bs 4 [] (nxt bs (nxt bs s))) (fun r => .ok (sEd r.2 (uCh (pE r.2) (eCh (pE r.2) ++ [(pW (nxt bs s), r.1, -1)])))) := by
          unfold pChapter
          rw [if_neg k1, if_neg (by rw [k2]; decide), if_neg k4]
        refine tn_nxt L7 (fun z9 n9 L9 _ => ?_)
        intro x10 hx10
        have N9 := n7.tr n9
        have ex10 : x10 = nI (6 * c + (eCh (pE s)).length) := by rw [hx10, (N9.1 31 (by omega)).trans h31, hx4, nI_mul, nI_add]
        have hn0 : (eCh (pE s)).length < 6 := by omega
        generalize hb : 6 * c + (eCh (pE s)).length = b at *
        have hb2 : b < 18 := by omega
        refine ⟨fun n z x => (∃ acc q, n = 4 - acc.length ∧ x = nI acc.length ∧ acc.length ≤ 3 ∧ R = bnd (bnd (pSpans bs (4 - acc.length) acc q) (fun r => .ok (sEd r.2 (uCh (pE r.2) (eCh (pE r.2) ++ [(pW (nxt bs s), r.1, -1)]))))) pEnds ∧ q.2 = s.2 ∧ PF c σ0 z ∧ RepT z c (pE s) ∧ sx z 31 = nI c ∧ spsT z 6 7 (3 * b) acc ∧ ((acc = [] ∧ LK bs z q.1) ∨ (acc ≠ [] ∧ ∃ q0, LK bs z q0.1 ∧ q = nxt bs q0))) ∨ (PF c σ0 z ∧ ∃ f, FL z f ∧ R = .error f), ⟨4, Or.inl ⟨[], nxt bs (nxt bs s), rfl, rfl, Nat.zero_le _, by rw [← hRes, eP]; rfl, rfl, hF.nf N9, hR.nf N9, (N9.1 31 (by omega)).trans h31, fun j hj => (by cases hj), Or.inl ⟨rfl, L9⟩⟩⟩, ?_⟩
        rintro n12 z13 x16 (⟨acc, q, hnn, hx16, hacc, hRq, hq2, P13, R13, c13, T13, hcase⟩ | ⟨P13, f, g, e⟩)
        · refine ⟨fun z => PF c σ0 z ∧ RepT z c (pE s) ∧ sx z 31 = nI c ∧ spsT z 6 7 (3 * b) acc ∧ LK bs z q.1, ?_, ?_⟩
          · rintro z20 ⟨P20, R20, c20, T20, L20⟩
            refine ⟨fun z o => z = z20 ∧ o = decide (acc.length = 3), ?_, ?_⟩
            · rintro z23 o24 ⟨rfl, rfl⟩
              refine tn_span L20 (fun z25 n25 o25 => ?_)
              rw [pSpans_step hacc] at hRq
              cases hs : pSpan bs false (decide (acc.length = 3)) q with
              | error f =>
                rw [hs] at o25 hRq
                have g : FL z25 f := o25
                exact ⟨fun z => absurd z g.nle, fun _ => bad z25 f (P20.nf n25) g hRq⟩
              | ok r =>
                obtain ⟨sp, q1⟩ := r
                rw [hs] at o25 hRq
                obtain ⟨L25, q49, q50, _⟩ := o25
                obtain ⟨p1, p2⟩ := pSpan_ok hs
                have hl2 : acc.length ≤ 2 := by have := of_decide_eq_false p2; omega
                have c25 : sx z25 31 = nI c := (n25.1 31 (by omega)).trans c20
                have eI : nI 3 * x10 + x16 = nI (3 * b + acc.length) := by rw [ex10, hx16, nI_mul, nI_add]
                refine ⟨fun _ => ?_, fun z => absurd L25.le z⟩
                rw [eI, nI_clamp (by omega)]
                refine ⟨vp_inN (by omega) (by omega), fun z27 hz27 => ⟨vp_inN (by omega) (by omega), fun z28 hz28 => ?_⟩⟩
                have e50 : sx z27 50 = sp.2 := by rw [hz27, sx_uf]; exact q50
                rw [q49] at hz27
                rw [e50, hz27] at hz28
                have nu : ∀ k i, (k = 6 ∨ k = 7) ∧ i = 3 * b + acc.length → ¬ usd c (pE s) k i := by
                  rintro k i ⟨hk, hi⟩ u
                  unfold usd at u
                  omega
                have R28 : RepT z28 c (pE s) := by rw [hz28]; exact ((R20.nf n25).puf (nu _ _ ⟨by omega, rfl⟩)).puf (nu _ _ ⟨by omega, rfl⟩)
                have P28 : PF c σ0 z28 := by
                  rw [hz28]
                  refine ((P20.nf n25).uf (Or.inl ⟨by omega, by omega, ?_⟩)).uf (Or.inl ⟨by omega, by omega, ?_⟩)
                  · show _ / 18 = c; omega
                  · show _ / 18 = c; omega
                have c28 : sx z28 31 = nI c := by rw [hz28]; exact c25
                have T28 : spsT z28 6 7 (3 * b) (acc ++ [sp]) := by rw [hz28]; exact (T20.nf n25).add (by omega)
                have L28 : LK bs z28 q1.1 := by rw [hz28]; exact (L25.uf (by omega)).uf (by omega)
                have la : (acc ++ [sp]).length = acc.length + 1 := by rw [List.length_append]; rfl
                refine tn_isSign L28 (by omega) ⟨fun hb1 => ⟨4 - (acc.length + 1), by omega, Or.inl ⟨acc ++ [sp], nxt bs q1, by rw [la], by rw [hx16, nI_add, la], by omega, ?_, ?_, P28, R28, c28, T28, Or.inr ⟨by simp, q1, L28, rfl⟩⟩⟩, fun hb1 => ?_⟩
                · rw [hRq, la, show 4 - (acc.length + 1) = 3 - acc.length by omega]
                  show bnd (bnd (if isS q1 44 = true then _ else _) _) _ = _
                  rw [if_pos hb1]
                · show q1.2 = s.2
                  rw [p1, hq2]
                · have ePE : pE q1 = pE s := by show q1.2.1 = s.2.1; rw [p1, hq2]
                  have hRq2 : R = pEnds (sEd q1 (uCh (pE q1) (eCh (pE q1) ++ [(pW (nxt bs s), acc ++ [sp], -1)]))) := by
                    rw [hRq]
                    show bnd (bnd (if isS q1 44 = true then _ else _) _) _ = _
                    rw [if_neg (by rw [hb1]; decide)]
                    rfl
                  rw [ex10, nI_clamp (by omega)]
                  refine ⟨vp_inN (by omega) (by omega), fun z33 hz33 => ⟨vp_inN (by omega) (by omega), fun z34 hz34 => ⟨vp_inN (by omega) (by omega), fun z35 hz35 => ?_⟩⟩⟩
                  have nu2 : ∀ k, (k = 4 ∨ k = 5 ∨ k = 8) → ¬ usd c (pE s) k b := by
                    intro k hk u
                    unfold usd at u
                    omega
                  have R35 : RepT z35 c (pE s) := by rw [hz35, hz34, hz33]; exact ((R28.pug (nu2 _ (by omega))).puf (nu2 _ (by omega))).puf (nu2 _ (by omega))
                  have P35 : PF c σ0 z35 := by
                    rw [hz35, hz34, hz33]
                    refine ((P28.ug ⟨Or.inl rfl, ?_⟩).uf (Or.inl ⟨by omega, by omega, ?_⟩)).uf (Or.inl ⟨by omega, by omega, ?_⟩)
                    · show _ / 6 = c; omega
                    · show _ / 6 = c; omega
                    · show _ / 6 = c; omega
                  have c35 : sx z35 31 = nI c := by rw [hz35, hz34, hz33]; exact c28
                  have L35 : LK bs z35 q1.1 := by rw [hz35, hz34, hz33]; exact ((L28.ug).uf (by omega)).uf (by omega)
                  refine tn_lineEnds L35 (fun hS => ⟨fun z => absurd L35.2.1 z, fun _ => ?_⟩) (fun z36 f n36 g ef => ⟨fun _ => bad z36 f (P35.nf n36) g ?_, fun z => absurd z g.ne⟩)
                  · rw [c35, e7, nI_clamp (by omega), R35.2.1.1]
                    refine ⟨vp_inN (by omega) (by omega), vp_inN (by omega) (by omega), fun z38 hz38 => hp z38 ?_⟩
                    rw [hRq2, pEnds_ok hS]
                    rw [nI_add] at hz38
                    refine ⟨?_, ?_, ?_, ?_, ?_⟩
                    · rw [hz38]
                      exact P35.uf (Or.inl ⟨by omega, by omega, by show _ / 7 = c; omega⟩)
                    · rw [hz38]
                      exact L35.uf (by omega)
                    · rw [hz38]
                      show RepT _ c (uCh (pE q1) (eCh (pE q1) ++ [(pW (nxt bs s), acc ++ [sp], -1)]))
                      rw [ePE]
                      refine R35.addCh hn0 ?_ ?_ (by omega) (fun j hj => ?_) ?_
                      · rw [hb, hz35, sg_uf, hz34, sg_uf, hz33, sg_ug, if_pos ⟨rfl, rfl⟩]; exact hw8
                      · rw [hb, hz35, sf_uf, if_neg (by omega), hz34, sf_uf, if_pos ⟨rfl, rfl⟩, hx16, nI_add, la]
                      · have := T28 j hj
                        rw [hb, hz35, sf_uf, if_neg (by omega), sf_uf, if_neg (by omega), hz34, sf_uf, if_neg (by omega), sf_uf, if_neg (by omega), hz33, sf_ug, sf_ug]
                        exact this
                      · rw [hb, hz35, sf_uf, if_pos ⟨rfl, rfl⟩]
                    · rw [hz38]; exact c35
                    · show nmS (uCh (pE q1) (eCh (pE q1) ++ [(pW (nxt bs s), acc ++ [sp], -1)]))
                      rw [ePE]
                      refine ⟨fun x hx => ?_, hn.2⟩
                      rcases List.mem_append.mp hx with y | y
                      · exact hn.1 x y
                      · rw [List.mem_singleton.mp y]; exact k3
                  · rw [hRq2]
                    exact pEnds_er ef _
            · rw [hx16]
              refine ⟨fun z => ⟨rfl, (decide_eq_false (fun w => z (by rw [w]))).symm⟩, fun z => ⟨rfl, (decide_eq_true ((nI_eq (by omega) (by omega)).mp z)).symm⟩⟩
          · rw [hx16]
            refine ⟨fun z => ?_, fun z => ?_⟩
            · have h0 : acc.length ≤ 0 := (nI_leI (a := acc.length) (b := 0) (by omega) (by omega)).mp z
              rcases hcase with ⟨_, L⟩ | ⟨h, _⟩
              · exact ⟨P13, R13, c13, T13, L⟩
              · exact absurd (List.length_eq_zero_iff.mp (by omega)) h
            · rcases hcase with ⟨h, _⟩ | ⟨_, q0, L, hq⟩
              · exact absurd (by rw [h]; decide) z
              · refine tn_nxt L (fun z42 n42 L42 _ => ⟨P13.nf n42, R13.nf n42, (n42.1 31 (by omega)).trans c13, T13.nf n42, ?_⟩)
                rw [hq]
                exact L42
        · refine ⟨fun z => z = z13, ?_, fun _ => rfl, fun _ => tb_next g rfl⟩
          rintro z20 rfl
          refine ⟨fun z _ => z = z20, ?_, fun _ => rfl, fun _ => rfl⟩
          rintro z23 _ rfl
          exact tb_span g ⟨fun z => absurd z g.nle, fun _ => bad z23 f P13 g e⟩
      · refine tb_next g ?_
        intro x10 _
        refine ⟨fun _ z _ => z = z7, ⟨0, rfl⟩, ?_⟩
        rintro n12 z13 x16 rfl
        refine ⟨fun z => z = z13, ?_, fun _ => rfl, fun _ => tb_next g rfl⟩
        rintro z20 rfl
        refine ⟨fun z _ => z = z20, ?_, fun _ => rfl, fun _ => rfl⟩
        rintro z23 _ rfl
        exact tb_span g ⟨fun z => absurd z g.nle, fun _ => bad z23 f n g e⟩
    · rcases hz3 with ⟨rfl, k1⟩ | ⟨n, f, g, e⟩
      · refine tn_nxt hL (fun z46 n46 L46 _ => tn_name (α := PS) L46 (fun hk hnm => ⟨fun z => absurd L46.2.1 z, fun _ => ?_⟩) (fun z47 f v n47 g hk e => ⟨fun _ => Or.inr ⟨hF.nf (n46.tr n47), f, g, ?_⟩, fun z => absurd z g.ne⟩))
        · refine tn_chapterOf (bs := bs) (hR.nf n46) ((n46.1 31 (by omega)).trans h31) hn.1 hnm ?_
          by_cases hi : chI (pE s) (pW (nxt bs s)) < (eCh (pE s)).length
          · rw [if_pos hi]
            refine ⟨fun z => absurd z (nI_pos (by omega)), fun _ => tn_wrong (α := PS) L46 (by omega) (fun z53 f n53 g e => Or.inr ⟨hF.nf (n46.tr n53), f, g, ?_⟩)⟩
            rw [← hRes]
            unfold pChapter
            rw [if_neg k1, if_neg (by rw [hk]; decide), if_pos hi, e]
            rfl
          · rw [if_neg hi]
            exact ⟨fun _ => Or.inl ⟨n46, L46, k1, rfl, hk, hnm, hi⟩, fun z => absurd (by decide) z⟩
        · rw [← hRes]
          unfold pChapter
          rw [if_neg k1, if_pos hk, e]
          rfl
      · exact tb_next g (tb_name g (fun v => ⟨fun _ => Or.inr ⟨n, f, g, e⟩, fun z => absurd z g.ne⟩))
  · unfold wp_chapters
    rw [h31, e7, nI_clamp (by omega)]
    refine ⟨vp_inN (by omega) (by omega), ?_⟩
    rw [hcnt]
    refine ⟨fun z => ⟨rfl, Or.inl ⟨rfl, fun w => z (by rw [w])⟩⟩, fun z => ?_⟩
    have h6 : (eCh (pE s)).length = 6 := (nI_eq (by omega) (by omega)).mp z
    refine tn_wrong (α := PS) hL (by omega) (fun z f n' g e => ⟨rfl, Or.inr ⟨hF.nf n', f, g, ?_⟩⟩)
    have : pChapter bs s = er s 4 := if_pos h6
    rw [← hRes, this, e]
    rfl
theorem tl_partner {c : Nat} {σ0 : TS} {bs : List Nat} {σ : TS} {s : PS} {post : TS → Prop} (h : TPk c σ0 bs σ s) (hp : ∀ σ', OT c σ0 bs σ' (bnd (pPartner bs s) pEnds) → post σ') : wp_partnerLine post σ := by
  obtain ⟨hF, hL, hR, h31, hn⟩ := h
  have hc := hR.1
  have hcnt := hR.2.2.2.1.1
  have hle := hR.2.2.2.1.2.1
  generalize hRes : bnd (pPartner bs s) pEnds = R at hp
  obtain ⟨i1, i2, i3⟩ := nI7 hc (show 2 < 7 by omega)
  have bad : ∀ z f, PF c σ0 z → FL z f → R = .error f → post z := by
    intro z f n g e
    refine hp z ?_
    rw [e]
    exact ⟨n, g⟩
  refine ⟨fun z x => x = nI (ePt (pE s)).length ∧ ((z = σ ∧ ¬ (ePt (pE s)).length = 10) ∨ (PF c σ0 z ∧ ∃ f, FL z f ∧ R = .error f)), ?_, ?_⟩
  · rintro z3 x4 ⟨hx4, hz3⟩
    refine ⟨fun z x8 x9 x10 x11 x12 => (¬ (ePt (pE s)).length = 10 ∧ ∃ (q : PS) (sps : List Sp) (sp : Sp) (v : Int32), PF c σ0 z ∧ RepT z c (pE s) ∧ sx z 31 = nI c ∧ LK bs z q.1 ∧ q.2 = s.2 ∧ x8 = nI (10 * c + (ePt (pE s)).length) ∧ x9 = sp.1 ∧ x10 = sp.2 ∧ x11 = v ∧ x12 = nI sps.length ∧ sps.length ≤ 3 ∧ spsT z 16 17 (3 * (10 * c + (ePt (pE s)).length)) sps ∧ R = pEnds (sEd q (uPt (pE q) (ePt (pE q) ++ [(sp, v, sps)])))) ∨ (PF c σ0 z ∧ ∃ f, FL z f ∧ R = .error f), ?_, ?_⟩
    · rintro z7 x8 x9 x10 x11 x12 (⟨k1, q, sps, sp, v, P7, R7, c7, L7, q2, hx8, hx9, hx10, hx11, hx12, hls, T7, eR⟩ | ⟨n, f, g, e⟩)
      · have hn0 : (ePt (pE s)).length < 10 := by omega
        have ePE : pE q = pE s := by show q.2.1 = s.2.1; rw [q2]
        generalize hb : 10 * c + (ePt (pE s)).length = b at *
        refine tn_lineEnds L7 (fun hS => ⟨fun _ => ?_, fun z => absurd L7.le z⟩) (fun z13 f n13 g ef => ⟨fun z => absurd z g.nle, fun _ => bad z13 f (P7.nf n13) g ?_⟩)
        · rw [hx8, nI_clamp (by omega)]
          refine ⟨vp_inN (by omega) (by omega), fun z15 hz15 => ⟨vp_inN (by omega) (by omega), fun z16 hz16 => ⟨vp_inN (by omega) (by omega), fun z17 hz17 => ⟨vp_inN (by omega) (by omega), fun z18 hz18 => ?_⟩⟩⟩⟩
          have nu : ∀ k, (k = 12 ∨ k = 13 ∨ k = 14 ∨ k = 15) → ¬ usd c (pE s) k b := by
            intro k hk u
            unfold usd at u
            omega
          have R18 : RepT z18 c (pE s) := by rw [hz18, hz17, hz16, hz15]; exact (((R7.puf (nu _ (by omega))).puf (nu _ (by omega))).puf (nu _ (by omega))).puf (nu _ (by omega))
          have P18 : PF c σ0 z18 := by
            rw [hz18, hz17, hz16, hz15]
            refine (((P7.uf (Or.inl ⟨by omega, by omega, ?_⟩)).uf (Or.inl ⟨by omega, by omega, ?_⟩)).uf (Or.inl ⟨by omega, by omega, ?_⟩)).uf (Or.inl ⟨by omega, by omega, ?_⟩)
            all_goals show _ / 10 = c; omega
          have c18 : sx z18 31 = nI c := by rw [hz18, hz17, hz16, hz15]; exact c7
          have L18 : LK bs z18 q.1 := by rw [hz18, hz17, hz16, hz15]; exact (((L7.uf (by omega)).uf (by omega)).uf (by omega)).uf (by omega)
          rw [c18, i1, i2, R18.2.2.2.1.1]
          refine ⟨i3, i3, fun z19 hz19 => hp z19 ?_⟩
          rw [nI_add] at hz19
          rw [eR, pEnds_ok hS]
          refine ⟨?_, ?_, ?_, ?_, ?_⟩
          · rw [hz19]
            exact P18.uf (Or.inl ⟨by omega, by omega, by show _ / 7 = c; omega⟩)
          · rw [hz19]
            exact L18.uf (by omega)
          · rw [hz19]
            show RepT _ c (uPt (pE q) (ePt (pE q) ++ [(sp, v, sps)]))
            rw [ePE]
            refine R18.addPt hn0 ?_ ?_ ?_ ?_ hls (fun j hj => ?_)
            · rw [hb, hz18, sf_uf, if_neg (by omega), hz17, sf_uf, if_neg (by omega), hz16, sf_uf, if_neg (by omega), hz15, sf_uf, if_pos ⟨rfl, rfl⟩]; exact hx9
            · rw [hb, hz18, sf_uf, if_neg (by omega), hz17, sf_uf, if_neg (by omega), hz16, sf_uf, if_pos ⟨rfl, rfl⟩]; exact hx10
            · rw [hb, hz18, sf_uf, if_neg (by omega), hz17, sf_uf, if_pos ⟨rfl, rfl⟩]; exact hx11
            · rw [hb, hz18, sf_uf, if_pos ⟨rfl, rfl⟩]; exact hx12
            · rw [hb, hz18, sf_uf, if_neg (by omega), sf_uf, if_neg (by omega), hz17, sf_uf, if_neg (by omega), sf_uf, if_neg (by omega), hz16, sf_uf, if_neg (by omega), sf_uf, if_neg (by omega), hz15, sf_uf, if_neg (by omega), sf_uf, if_neg (by omega)]
              exact T7 j hj
          · rw [hz19]; exact c18
          · show nmS (uPt (pE q) _)
            rw [ePE]
            exact hn
        · rw [eR]
          exact pEnds_er ef _
      · exact tb_lineEnds g ⟨fun z => absurd z g.nle, fun _ => bad z7 f n g e⟩
    · rcases hz3 with ⟨rfl, k1⟩ | ⟨n, f, g, e⟩
      · have eP : pPartner bs s = bnd (pSpan bs false false (nxt bs s)) (fun r => bnd (pNum bs 1 3 r.2) (fun q =>
            if isW q.2 2 = true then bnd (pSpans bs 4 [] (nxt bs q.2)) (fun u => .ok (sEd u.2 (uPt (pE u.2) (ePt (pE u.2) ++ [(r.1, q.1, u.1)]))))
            else .ok (sEd q.2 (uPt (pE q.2) (ePt (pE q.2) ++ [(r.1, q.1, [])]))))) := if_neg k1
        refine tn_nxt hL (fun z20 n20 L20 _ => tn_span L20 (fun z21 n21 o21 => ?_))
        intro x22 hx22 x23 hx23 x24 hx24
        have N21 := n20.tr n21
        have ex22 : x22 = nI (10 * c + (ePt (pE s)).length) := by rw [hx22, (N21.1 31 (by omega)).trans h31, hx4, nI_mul, nI_add]
        cases hs : pSpan bs false false (nxt bs s) with
        | error f =>
          rw [hs] at o21
          have g : FL z21 f := o21
          refine tb_number g (fun v => tb_isWord g ⟨fun _ => Or.inr ⟨hF.nf N21, f, g, ?_⟩, fun w => (by cases w)⟩)
          rw [← hRes, eP, hs]; rfl
        | ok r =>
          obtain ⟨sp, s1⟩ := r
          rw [hs] at o21
          obtain ⟨L21, q49, q50, _⟩ := o21
          have e1 := (pSpan_ok hs).1
          refine tn_number (lo := 1) (hi := 3) L21 (by omega) (fun z25 v s2 n25 ev L25 _ => ?_) (fun z25 f v n25 g ev => tb_isWord g ⟨fun _ => Or.inr ⟨hF.nf (N21.tr n25), f, g, ?_⟩, fun w => (by cases w)⟩)
          · have e2 := (pNum_ok ev).1
            have N25 := N21.tr n25
            have es2 : s2.2 = s.2 := by rw [e2, e1]; rfl
            have eR : R = bnd (if isW s2 2 = true then bnd (pSpans bs 4 [] (nxt bs s2)) (fun u => .ok (sEd u.2 (uPt (pE u.2) (ePt (pE u.2) ++ [(sp, v, u.1)])))) else .ok (sEd s2 (uPt (pE s2) (ePt (pE s2) ++ [(sp, v, [])])))) pEnds := by
              rw [← hRes, eP, hs]
              show bnd (bnd (pNum bs 1 3 s1) _) _ = _
              rw [ev]
              rfl
            refine tn_isWord L25 (by omega) ⟨fun hb => Or.inl ⟨k1, s2, [], sp, v, hF.nf N25, hR.nf N25, (N25.1 31 (by omega)).trans h31, L25, es2, ex22, by rw [hx23, q49], by rw [hx24, q50], rfl, rfl, Nat.zero_le _, fun j hj => (by cases hj), ?_⟩, fun hb => ?_⟩
            · rw [eR, if_neg (by rw [hb]; decide)]; rfl
            · rw [if_pos hb] at eR
              generalize hbb : 10 * c + (ePt (pE s)).length = b at *
              have hb2 : b < 30 := by omega
              have hn0 : (ePt (pE s)).length < 10 := by omega
              refine ⟨fun n z x => ∃ acc q0, n = 4 - acc.length ∧ x = nI acc.length ∧ acc.length ≤ 3 ∧ R = bnd (bnd (pSpans bs (4 - acc.length) acc (nxt bs q0)) (fun u => .ok (sEd u.2 (uPt (pE u.2) (ePt (pE u.2) ++ [(sp, v, u.1)]))))) pEnds ∧ q0.2 = s.2 ∧ PF c σ0 z ∧ RepT z c (pE s) ∧ sx z 31 = nI c ∧ spsT z 16 17 (3 * b) acc ∧ LK bs z q0.1, ⟨4, [], s2, rfl, rfl, Nat.zero_le _, eR, es2, hF.nf N25, hR.nf N25, (N25.1 31 (by omega)).trans h31, fun j hj => (by cases hj), L25⟩, ?_⟩
              rintro n31 z32 x35 ⟨acc, q0, hnn, hx35, hacc, hRq, hq2, P32, R32, c32, T32, L32⟩
              refine ⟨fun z o => NF z32 z ∧ LK bs z (nxt bs q0).1 ∧ o = decide (acc.length = 3), ?_, ?_⟩
              · rintro z39 o40 ⟨n39, L39, rfl⟩
                refine tn_span L39 (fun z41 n41 o41 => ?_)
                have N41 := n39.tr n41
                rw [pSpans_step hacc] at hRq
                cases hs' : pSpan bs false (decide (acc.length = 3)) (nxt bs q0) with
                | error f =>
                  rw [hs'] at o41 hRq
                  have g : FL z41 f := o41
                  exact ⟨fun z => absurd z g.nle, fun _ => bad z41 f (P32.nf N41) g hRq⟩
                | ok r =>
                  obtain ⟨sp2, q1⟩ := r
                  rw [hs'] at o41 hRq
                  obtain ⟨L41, q49', q50', _⟩ := o41
                  obtain ⟨p1, p2⟩ := pSpan_ok hs'
                  have hl2 : acc.length ≤ 2 := by have := of_decide_eq_false p2; omega
                  have c41 : sx z41 31 = nI c := (N41.1 31 (by omega)).trans c32
                  have eI : nI 3 * x22 + x35 = nI (3 * b + acc.length) := by rw [ex22, hx35, nI_mul, nI_add]
                  refine ⟨fun _ => ?_, fun z => absurd L41.le z⟩
                  rw [eI, nI_clamp (by omega)]
                  refine ⟨vp_inN (by omega) (by omega), fun z43 hz43 => ⟨vp_inN (by omega) (by omega), fun z44 hz44 => ?_⟩⟩
                  have e50 : sx z43 50 = sp2.2 := by rw [hz43, sx_uf]; exact q50'
                  rw [q49'] at hz43
                  rw [e50, hz43] at hz44
                  have nu : ∀ k i, (k = 16 ∨ k = 17) ∧ i = 3 * b + acc.length → ¬ usd c (pE s) k i := by
                    rintro k i ⟨hk, hi⟩ u
                    unfold usd at u
                    omega
                  have R44 : RepT z44 c (pE s) := by rw [hz44]; exact ((R32.nf N41).puf (nu _ _ ⟨by omega, rfl⟩)).puf (nu _ _ ⟨by omega, rfl⟩)
                  have P44 : PF c σ0 z44 := by
                    rw [hz44]
                    refine ((P32.nf N41).uf (Or.inl ⟨by omega, by omega, ?_⟩)).uf (Or.inl ⟨by omega, by omega, ?_⟩)
                    · show _ / 30 = c; omega
                    · show _ / 30 = c; omega
                  have c44 : sx z44 31 = nI c := by rw [hz44]; exact c41
                  have T44 : spsT z44 16 17 (3 * b) (acc ++ [sp2]) := by rw [hz44]; exact (T32.nf N41).add (by omega)
                  have L44 : LK bs z44 q1.1 := by rw [hz44]; exact (L41.uf (by omega)).uf (by omega)
                  have la : (acc ++ [sp2]).length = acc.length + 1 := by rw [List.length_append]; rfl
                  have hq1 : q1.2 = s.2 := by rw [p1]; exact hq2
                  refine tn_isSign L44 (by omega) ⟨fun hb1 => ⟨4 - (acc.length + 1), by omega, acc ++ [sp2], q1, by rw [la], by rw [hx35, nI_add, la], by omega, ?_, hq1, P44, R44, c44, T44, L44⟩, fun hb1 => Or.inl ⟨k1, q1, acc ++ [sp2], sp, v, P44, R44, c44, L44, hq1, ex22, by rw [hx23, q49], by rw [hx24, q50], rfl, by rw [hx35, nI_add, la], by omega, T44, ?_⟩⟩
                  · rw [hRq, la, show 4 - (acc.length + 1) = 3 - acc.length by omega]
                    show bnd (bnd (if isS q1 44 = true then _ else _) _) _ = _
                    rw [if_pos hb1]
                  · rw [hRq]
                    show bnd (bnd (if isS q1 44 = true then _ else _) _) _ = _
                    rw [if_neg (by rw [hb1]; decide)]
                    rfl
              · refine tn_nxt L32 (fun z49 n49 L49 _ => ?_)
                rw [hx35]
                exact ⟨fun z => ⟨n49, L49, (decide_eq_false (fun w => z (by rw [w]))).symm⟩, fun z => ⟨n49, L49, (decide_eq_true ((nI_eq (by omega) (by omega)).mp z)).symm⟩⟩
          · rw [← hRes, eP, hs]
            show bnd (bnd (pNum bs 1 3 s1) _) _ = _
            rw [ev]
            rfl
      · refine tb_next g (tb_span g ?_)
        intro x22 _ x23 _ x24 _
        exact tb_number g (fun v => tb_isWord g ⟨fun _ => Or.inr ⟨n, f, g, e⟩, fun w => (by cases w)⟩)
  · unfold wp_partners
    rw [h31, i1, i2]
    refine ⟨i3, ?_⟩
    rw [hcnt]
    refine ⟨fun z => ⟨rfl, Or.inl ⟨rfl, fun w => z (by rw [w])⟩⟩, fun z => ?_⟩
    have h10 : (ePt (pE s)).length = 10 := (nI_eq (by omega) (by omega)).mp z
    refine tn_wrong (α := PS) hL (by omega) (fun z f n' g e => ⟨rfl, Or.inr ⟨hF.nf n', f, g, ?_⟩⟩)
    have : pPartner bs s = er s 4 := if_pos h10
    rw [← hRes, this, e]
    rfl
