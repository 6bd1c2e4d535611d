/-! The model's parser: the draft and what lies around it; ranks -/
set_option maxRecDepth 100000
/-- what the parser changes: the draft's side, its own numbers -/
def PF (c : Nat) (σ σ' : TS) : Prop := (∀ k, (k < 42 ∨ 61 < k) → sx σ' k = sx σ k) ∧ (∀ a j, ¬ ((a = 4 ∨ a = 18) ∧ j / Wd a = c) → sg σ' a j = sg σ a j) ∧ ∀ a j, ¬ (3 ≤ a ∧ a ≤ 28 ∧ j / Wd a = c) → ¬ (52 ≤ a ∧ a ≤ 58) → sf σ' a j = sf σ a j
theorem PF.nf {c : Nat} {σ σ' σ'' : TS} (h : PF c σ σ') (n : NF σ' σ'') : PF c σ σ'' := ⟨fun k hk => (n.1 k (by omega)).trans (h.1 k hk), fun a j z => (n.2.1 a j).trans (h.2.1 a j z), fun a j z w => (n.2.2 a j).trans (h.2.2 a j z w)⟩
theorem PF.ux {c k : Nat} {v : Int32} {σ σ' : TS} (h : PF c σ σ') (hk : 42 ≤ k ∧ k ≤ 61) : PF c σ (ux σ' k v) := ⟨fun i hi => by rw [sx_ux, if_neg (by omega)]; exact h.1 i hi, h.2.1, h.2.2⟩
theorem PF.uf {c k i : Nat} {v : Int32} {σ σ' : TS} (h : PF c σ σ') (hk : (3 ≤ k ∧ k ≤ 28 ∧ i / Wd k = c) ∨ (52 ≤ k ∧ k ≤ 58)) : PF c σ (uf σ' k i v) := ⟨h.1, h.2.1, fun a j z w => by
  rw [sf_uf, if_neg (by rintro ⟨rfl, rfl⟩; rcases hk with q | q; exact z q; exact w q)]; exact h.2.2 a j z w⟩
theorem PF.ug {c k i : Nat} {v : Int64} {σ σ' : TS} (h : PF c σ σ') (hk : (k = 4 ∨ k = 18) ∧ i / Wd k = c) : PF c σ (ug σ' k i v) := ⟨h.1, fun a j z => by
  rw [sg_ug, if_neg (by rintro ⟨rfl, rfl⟩; exact z hk)]; exact h.2.1 a j z, h.2.2⟩
def nmS (E : Ed) : Prop := (∀ c ∈ eCh E, isNm c.1) ∧ ∀ c ∈ eCl E, isNm c.1
def TPk (c : Nat) (σ0 : TS) (bs : List Nat) (σ : TS) (s : PS) : Prop := PF c σ0 σ ∧ LK bs σ s.1 ∧ RepT σ c (pE s) ∧ sx σ 31 = nI c ∧ nmS (pE s)
theorem TPk.nf {c : Nat} {σ0 : TS} {bs : List Nat} {σ σ' : TS} {s s' : PS} (h : TPk c σ0 bs σ s) (n : NF σ σ') (l : LK bs σ' s'.1) (e : pE s' = pE s) : TPk c σ0 bs σ' s' := ⟨h.1.nf n, l, by rw [e]; exact h.2.2.1.nf n, (n.1 31 (by omega)).trans h.2.2.2.1, by rw [e]; exact h.2.2.2.2⟩
/-- how a line or a part of it ends -/
def OT (c : Nat) (σ0 : TS) (bs : List Nat) (σ : TS) (r : Except Nat PS) : Prop := match r with
  | .error f => PF c σ0 σ ∧ FL σ f
  | .ok s => TPk c σ0 bs σ s
def pEnds (q : PS) : Except Nat PS := if isS q 59 = true then .ok q else er q 1
theorem pEnds_er {bs : List Nat} {s : PS} {f : Nat} (h : pMustS bs 59 s = .error f) (E : Ed) : pEnds (sEd s E) = .error f := by
  unfold pMustS at h
  split at h
  · cases h
  · next hS => exact (if_neg hS).trans h
theorem pEnds_ok {s : PS} (h : isS s 59 = true) (E : Ed) : pEnds (sEd s E) = .ok (sEd s E) := if_pos h
/-- writes of arrays don't touch the token -/
theorem LK.uf {bs : List Nat} {σ : TS} {l : LxS} {k i : Nat} {v : Int32} (h : LK bs σ l) (hk : k ≠ 0) : LK bs (uf σ k i v) l := ⟨⟨h.1.1, h.1.2.1, h.1.2.2.1, fun j hj => by rw [sf_uf, if_neg (fun z => hk z.1.symm)]; exact h.1.2.2.2 j hj⟩, h.2⟩
theorem LK.ug {bs : List Nat} {σ : TS} {l : LxS} {k i : Nat} {v : Int64} (h : LK bs σ l) : LK bs (ug σ k i v) l := h
theorem pSpan_ok {bs : List Nat} {o1 o2 : Bool} {s s' : PS} {sp : Sp} (h : pSpan bs o1 o2 s = .ok (sp, s')) : s'.2 = s.2 ∧ o2 = false := by
  unfold pSpan at h
  split at h
  · cases h
  · split at h
    · cases h
    · split at h
      · cases h
      · next h2 =>
        have ho : o2 = false := Bool.eq_false_iff.mpr h2
        split at h
        · cases h; exact ⟨rfl, ho⟩
        · split at h
          · cases h
          · split at h
            · cases h
            · cases h; exact ⟨rfl, ho⟩
theorem pNum_ok {bs : List Nat} {lo hi : Nat} {s s' : PS} {v : Int32} (h : pNum bs lo hi s = .ok (v, s')) : s'.2 = s.2 ∧ lo ≤ pNm s ∧ pNm s ≤ hi ∧ v = nI (pNm s) := by
  unfold pNum at h
  split at h
  · cases h
  · split at h
    · cases h
    · next h2 => cases h; exact ⟨rfl, (Decidable.not_not.mp h2).1, (Decidable.not_not.mp h2).2, rfl⟩
theorem RepT.c3 {σ : TS} {c : Nat} {E : Ed} (h : RepT σ c E) : c < 3 := h.1
theorem nI7 {c k : Nat} (hc : c < 3) (hk : k < 7) : nI 7 * nI c + nI k = nI (7 * c + k) ∧ (nI (7 * c + k)).toNatClampNeg = 7 * c + k ∧ vp_in (nI (7 * c + k)) 21 := ⟨by rw [nI_mul, nI_add], nI_clamp (by omega), vp_inN (by omega) (by omega)⟩
theorem RepT.addRk {σ : TS} {c : Nat} {E : Ed} {sp : Sp} {v : Int32} (h : RepT σ c E) (hn : (eRk E).length < 10) (h1 : sf σ 9 (10 * c + (eRk E).length) = sp.1) (h2 : sf σ 10 (10 * c + (eRk E).length) = sp.2) (h3 : sf σ 11 (10 * c + (eRk E).length) = v) : RepT (uf σ 3 (7 * c + 1) (nI ((eRk E).length + 1))) c (uRk E (eRk E ++ [(sp, v)])) := by
  obtain ⟨hd, a, ⟨b1, b2, b3⟩, c1, d1, e1, f1⟩ := h
  have ne : ∀ {k : Nat}, k ≠ 1 → ¬ (3 = 3 ∧ 7 * c + k = 7 * c + 1) := fun hk z => hk (by omega)
  refine ⟨hd, ⟨?_, a.2⟩, ⟨?_, ?_, fun k hk => ?_⟩, ⟨?_, c1.2⟩, ⟨?_, d1.2⟩, ⟨?_, e1.2⟩, ⟨?_, f1.2⟩⟩
  · rw [sf_uf, if_neg (by omega)]; exact a.1
  · rw [sf_uf, if_pos ⟨rfl, rfl⟩]; show _ = nI (eRk E ++ [(sp, v)]).length; rw [List.length_append]; rfl
  · show (eRk E ++ [(sp, v)]).length ≤ 10; rw [List.length_append, List.length_singleton]; omega
  · have hk' : k < (eRk E ++ [(sp, v)]).length := hk
    show sf σ 9 _ = (eRk E ++ [(sp, v)])[k].1.1 ∧ sf σ 10 _ = (eRk E ++ [(sp, v)])[k].1.2 ∧ sf σ 11 _ = (eRk E ++ [(sp, v)])[k].2
    rw [List.length_append, List.length_singleton] at hk'
    rcases Nat.lt_or_ge k (eRk E).length with z | z
    · simp only [List.getElem_append_left z]; exact b3 k z
    · have : k = (eRk E).length := by omega
      subst this
      simp only [List.getElem_append_right (Nat.le_refl _), Nat.sub_self, List.getElem_singleton]
      exact ⟨h1, h2, h3⟩
  · rw [sf_uf, if_neg (by omega)]; exact c1.1
  · rw [sf_uf, if_neg (by omega)]; exact d1.1
  · rw [sf_uf, if_neg (by omega)]; exact e1.1
  · rw [sf_uf, if_neg (by omega)]; exact f1.1
theorem tl_rank {c : Nat} {σ0 : TS} {bs : List Nat} {σ : TS} {s : PS} {post : TS → Prop} (h : TPk c σ0 bs σ s) (hp : ∀ σ', OT c σ0 bs σ' (bnd (pRank bs s) pEnds) → post σ') : wp_rankLine post σ := by
  obtain ⟨hF, hL, hR, h31, hn⟩ := h
  have hc := hR.1
  have hcnt := hR.2.2.1.1
  have hle := hR.2.2.1.2.1
  obtain ⟨i1, i2, i3⟩ := nI7 hc (show 1 < 7 by omega)
  have bad : ∀ z f, NF σ z → FL z f → bnd (pRank bs s) pEnds = .error f → post z := by
    intro z f n g e
    refine hp z ?_
    rw [e]
    exact ⟨hF.nf n, g⟩
  refine ⟨fun z x => x = nI (eRk (pE s)).length ∧ ((z = σ ∧ ¬ (eRk (pE s)).length = 10) ∨ (NF σ z ∧ ∃ f, FL z f ∧ bnd (pRank bs s) pEnds = .error f)), ?_, ?_⟩
  · rintro z3 x4 ⟨hx4, ⟨rfl, hn10⟩ | ⟨n, f, g, e⟩⟩
    · have eP : pRank bs s = bnd (pSpan bs true false (nxt bs s)) (fun r => bnd (pNum bs 1 9 r.2) (fun q => .ok (sEd q.2 (uRk (pE q.2) (eRk (pE q.2) ++ [(r.1, q.1)]))))) := if_neg hn10
      refine tn_nxt hL (fun z5 n5 L5 _ => tn_span L5 (fun z6 n6 o6 => ?_))
      intro x7 hx7 x8 hx8
      have N6 := n5.tr n6
      cases hs : pSpan bs true false (nxt bs s) with
      | error f =>
        rw [hs] at o6
        have g : FL z6 f := o6
        refine tb_number g (fun v => tb_lineEnds g ⟨fun z => absurd z g.nle, fun _ => bad z6 f N6 g ?_⟩)
        rw [eP, hs]; rfl
      | ok r =>
        obtain ⟨sp, s1⟩ := r
        rw [hs] at o6
        obtain ⟨L6, q49, q50, q51⟩ := o6
        have e1 := (pSpan_ok hs).1
        refine tn_number (lo := 1) (hi := 9) L6 (by omega) (fun z9 v s2 n9 ev L9 _ => ?_) (fun z9 f v n9 g ev => tb_lineEnds g ⟨fun z => absurd z g.nle, fun _ => bad z9 f (N6.tr n9) g ?_⟩)
        · have e2 := (pNum_ok ev).1
          have N9 := N6.tr n9
          have ePE : pE s2 = pE s := by show s2.2.1 = s.2.1; rw [e2, e1]; rfl
          have eR : bnd (pRank bs s) pEnds = pEnds (sEd s2 (uRk (pE s2) (eRk (pE s2) ++ [(sp, v)]))) := by
            rw [eP, hs]
            show bnd (bnd (pNum bs 1 9 s1) _) _ = _
            rw [ev]
            rfl
          refine tn_lineEnds L9 (fun hS => ⟨fun _ => ?_, fun z => absurd L9.le z⟩) (fun z11 f n11 g ef => ⟨fun z => absurd z g.nle, fun _ => bad z11 f (N9.tr n11) g ?_⟩)
          · have c31 : sx z9 31 = nI c := (N9.1 31 (by omega)).trans h31
            have R9 : RepT z9 c (pE s) := hR.nf N9
            have eI : nI 10 * nI c + x4 = nI (10 * c + (eRk (pE s)).length) := by rw [hx4, nI_mul, nI_add]
            rw [c31, eI, nI_clamp (by omega)]
            refine ⟨vp_inN (by omega) (by omega), fun z13 hz13 => ?_⟩
            have c13 : sx z13 31 = nI c := by rw [hz13, sx_uf]; exact c31
            rw [c13, eI, nI_clamp (by omega)]
            refine ⟨vp_inN (by omega) (by omega), fun z14 hz14 => ?_⟩
            have c14 : sx z14 31 = nI c := by rw [hz14, sx_uf]; exact c13
            rw [c14, eI, nI_clamp (by omega)]
            refine ⟨vp_inN (by omega) (by omega), fun z15 hz15 => ?_⟩
            have c15 : sx z15 31 = nI c := by rw [hz15, sx_uf]; exact c14
            rw [c15, i1, i2]
            refine ⟨i3, i3, fun z16 hz16 => hp z16 ?_⟩
            have nu : ∀ k, k = 9 ∨ k = 10 ∨ k = 11 → ¬ usd c (pE s) k (10 * c + (eRk (pE s)).length) := by
              intro k hk u
              unfold usd at u
              omega
            have R15 : RepT z15 c (pE s) := by
              rw [hz15, hz14, hz13]
              exact ((R9.puf (nu _ (by omega))).puf (nu _ (by omega))).puf (nu _ (by omega))
            have q3 : sf z15 3 (7 * c + 1) = nI (eRk (pE s)).length := R15.2.2.1.1
            rw [eR]
            have hS2 : isS (sEd s2 (uRk (pE s2) (eRk (pE s2) ++ [(sp, v)]))) 59 = true := hS
            unfold pEnds
            rw [if_pos hS2]
            have hz : z16 = uf z15 3 (7 * c + 1) (nI ((eRk (pE s)).length + 1)) := by rw [hz16, q3, nI_add]
            refine ⟨?_, ?_, ?_, ?_, ?_⟩
            · rw [hz16, hz15, hz14, hz13]
              refine ((((hF.nf N9).uf (Or.inl ⟨by omega, by omega, ?_⟩)).uf (Or.inl ⟨by omega, by omega, ?_⟩)).uf (Or.inl ⟨by omega, by omega, ?_⟩)).uf (Or.inl ⟨by omega, by omega, ?_⟩)
              · show _ / 10 = c; omega
              · show _ / 10 = c; omega
              · show _ / 10 = c; omega
              · show _ / 7 = c; omega
            · rw [hz16, hz15, hz14, hz13]
              exact (((L9.uf (by omega)).uf (by omega)).uf (by omega)).uf (by omega)
            · rw [hz]
              show RepT _ c (uRk (pE s2) (eRk (pE s2) ++ [(sp, v)]))
              rw [ePE]
              refine R15.addRk (by omega) ?_ ?_ ?_
              · rw [hz15, sf_uf, if_neg (by omega), hz14, sf_uf, if_neg (by omega), hz13, sf_uf, if_pos ⟨rfl, rfl⟩, hx7]; exact q49
              · rw [hz15, sf_uf, if_neg (by omega), hz14, sf_uf, if_pos ⟨rfl, rfl⟩, hx8]; exact q50
              · rw [hz15, sf_uf, if_pos ⟨rfl, rfl⟩]
            · rw [hz16, sx_uf]; exact c15
            · show nmS (uRk (pE s2) _)
              rw [ePE]
              exact hn
          · rw [eR]
            exact pEnds_er ef _
        · rw [eP, hs]
          show bnd (bnd (pNum bs 1 9 s1) _) _ = _
          rw [ev]
          rfl
    · refine tb_next g (tb_span g ?_)
      intro x7 _ x8 _
      exact tb_number g (fun v => tb_lineEnds g ⟨fun z => absurd z g.nle, fun _ => bad z3 f n g e⟩)
  · unfold wp_ranks
    rw [h31, i1, i2]
    refine ⟨i3, ?_⟩
    rw [hcnt]
    refine ⟨fun z => ⟨rfl, Or.inl ⟨rfl, fun w => z (by rw [w])⟩⟩, fun z => ?_⟩
    have h10 : (eRk (pE s)).length = 10 := (nI_eq (by omega) (by omega)).mp z
    refine tn_wrong (α := PS) hL (by omega) (fun z f n' g e => ⟨rfl, Or.inr ⟨n', f, g, ?_⟩⟩)
    have : pRank bs s = er s 4 := if_pos h10
    rw [this, e]
    rfl
