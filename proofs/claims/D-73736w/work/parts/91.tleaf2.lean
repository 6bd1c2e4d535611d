/-! The model's parser: a leaf -/
set_option maxRecDepth 100000
theorem RepT.addNd {σ : TS} {c : Nat} {E : Ed} {t : Nat} (h : RepT σ c E) (hn : (eNd E).length < 40) : RepT (uf (uf σ 3 (7 * c + 4) (nI ((eNd E).length + 1))) 24 (40 * c + (eNd E).length) (nI t)) c (uNd E (eNd E ++ [(sf σ 20 (40 * c + (eNd E).length), 0, 0, 0, t)])) := by
  obtain ⟨hd, a1, b1, c1, d1, ⟨e1, e2, e3⟩, f1⟩ := h
  refine ⟨hd, ⟨?_, a1.2⟩, ⟨?_, b1.2⟩, ⟨?_, c1.2⟩, ⟨?_, d1.2⟩, ⟨?_, ?_, fun i hi => ?_⟩, ⟨?_, f1.2⟩⟩
  · rw [sf_uf, if_neg (by omega), sf_uf, if_neg (by omega)]; exact a1.1
  · rw [sf_uf, if_neg (by omega), sf_uf, if_neg (by omega)]; exact b1.1
  · rw [sf_uf, if_neg (by omega), sf_uf, if_neg (by omega)]; exact c1.1
  · rw [sf_uf, if_neg (by omega), sf_uf, if_neg (by omega)]; exact d1.1
  · rw [sf_uf, if_neg (by omega), sf_uf, if_pos ⟨rfl, rfl⟩]; show _ = nI (eNd E ++ [_]).length; rw [List.length_append]; rfl
  · show (eNd E ++ [_]).length ≤ 40; rw [List.length_append, List.length_singleton]; omega
  · have hk' : i < (eNd E ++ [(sf σ 20 (40 * c + (eNd E).length), 0, 0, 0, t)]).length := hi
    show sf _ 20 _ = (eNd E ++ [(sf σ 20 (40 * c + (eNd E).length), 0, 0, 0, t)])[i].1 ∧ sf _ 24 _ = nI (eNd E ++ [(sf σ 20 (40 * c + (eNd E).length), 0, 0, 0, t)])[i].2.2.2.2 ∧ ((eNd E ++ [(sf σ 20 (40 * c + (eNd E).length), 0, 0, 0, t)])[i].2.2.1 ≠ 0 → sf _ 21 _ = nI (eNd E ++ [(sf σ 20 (40 * c + (eNd E).length), 0, 0, 0, t)])[i].2.1 ∧ sf _ 22 _ = nI (eNd E ++ [(sf σ 20 (40 * c + (eNd E).length), 0, 0, 0, t)])[i].2.2.1 ∧ sf _ 23 _ = nI (eNd E ++ [(sf σ 20 (40 * c + (eNd E).length), 0, 0, 0, t)])[i].2.2.2.1)
    rw [List.length_append, List.length_singleton] at hk'
    rw [sf_uf, if_neg (by omega), sf_uf, if_neg (by omega)]
    rcases Nat.lt_or_ge i (eNd E).length with z | z
    · simp only [List.getElem_append_left z]
      obtain ⟨q1, q2, q3⟩ := e3 i z
      refine ⟨q1, ?_, fun w => ⟨?_, ?_, ?_⟩⟩
      · rw [sf_uf, if_neg (by omega), sf_uf, if_neg (by omega)]; exact q2
      · rw [sf_uf, if_neg (by omega), sf_uf, if_neg (by omega)]; exact (q3 w).1
      · rw [sf_uf, if_neg (by omega), sf_uf, if_neg (by omega)]; exact (q3 w).2.1
      · rw [sf_uf, if_neg (by omega), sf_uf, if_neg (by omega)]; exact (q3 w).2.2
    · have : i = (eNd E).length := by omega
      subst this
      simp only [List.getElem_append_right (Nat.le_refl _), Nat.sub_self, List.getElem_singleton]
      exact ⟨trivial, by rw [sf_uf, if_pos ⟨rfl, rfl⟩], fun w => absurd rfl w⟩
  · rw [sf_uf, if_neg (by omega), sf_uf, if_neg (by omega)]; exact f1.1
/-- a node's first field set: its row has no parts yet -/
theorem RepT.set20 {σ : TS} {c n t : Nat} {E : Ed} {v v' : Int32} (h : RepT σ c E) (hn : (eNd E)[n]? = some (v', 0, 0, 0, t)) : RepT (uf σ 20 (40 * c + n) v) c (uNd E ((eNd E).set n (v, 0, 0, 0, t))) := by
  obtain ⟨hd, a1, b1, c1, d1, ⟨e1, e2, e3⟩, f1⟩ := h
  have hlt : n < (eNd E).length := by
    rcases Nat.lt_or_ge n (eNd E).length with z | z
    · exact z
    · rw [List.getElem?_eq_none z] at hn; cases hn
  refine ⟨hd, ⟨?_, a1.2⟩, ⟨?_, b1.2⟩, ⟨?_, c1.2⟩, ⟨?_, d1.2⟩, ⟨?_, ?_, fun i hi => ?_⟩, ⟨?_, f1.2⟩⟩
  · rw [sf_uf, if_neg (by omega)]; exact a1.1
  · rw [sf_uf, if_neg (by omega)]; exact b1.1
  · rw [sf_uf, if_neg (by omega)]; exact c1.1
  · rw [sf_uf, if_neg (by omega)]; exact d1.1
  · rw [sf_uf, if_neg (by omega)]; show _ = nI ((eNd E).set n _).length; rw [List.length_set]; exact e1
  · show ((eNd E).set n _).length ≤ 40; rw [List.length_set]; exact e2
  · have hk' : i < ((eNd E).set n (v, 0, 0, 0, t)).length := hi
    show sf _ 20 _ = ((eNd E).set n (v, 0, 0, 0, t))[i].1 ∧ sf σ 24 _ = nI ((eNd E).set n (v, 0, 0, 0, t))[i].2.2.2.2 ∧ (((eNd E).set n (v, 0, 0, 0, t))[i].2.2.1 ≠ 0 → sf σ 21 _ = nI ((eNd E).set n (v, 0, 0, 0, t))[i].2.1 ∧ sf σ 22 _ = nI ((eNd E).set n (v, 0, 0, 0, t))[i].2.2.1 ∧ sf σ 23 _ = nI ((eNd E).set n (v, 0, 0, 0, t))[i].2.2.2.1)
    rw [List.length_set] at hk'
    by_cases e : n = i
    · subst e
      simp only [List.getElem_set_self]
      have h0 := (e3 n hlt).2.1
      rw [List.getElem?_eq_getElem hlt] at hn
      rw [Option.some.inj hn] at h0
      exact ⟨by rw [sf_uf, if_pos ⟨rfl, rfl⟩], h0, fun w => absurd rfl w⟩
    · simp only [List.getElem_set_ne e]
      rw [sf_uf, if_neg (by omega)]
      exact e3 i hk'
  · rw [sf_uf, if_neg (by omega)]; exact f1.1
theorem RepT.addCl {σ : TS} {c : Nat} {E : Ed} {w : List Nat} {v : Int32} (h : RepT σ c E) (hn : (eCl E).length < 16) (g1 : sg σ 18 (16 * c + (eCl E).length) = pk w) (g2 : sf σ 19 (16 * c + (eCl E).length) = v) : RepT (uf σ 3 (7 * c + 3) (nI ((eCl E).length + 1))) c (uCl E (eCl E ++ [(w, v)])) := by
  obtain ⟨hd, a1, b1, c1, ⟨d1, d2, d3⟩, e1, f1⟩ := h
  refine ⟨hd, ⟨?_, a1.2⟩, ⟨?_, b1.2⟩, ⟨?_, c1.2⟩, ⟨?_, ?_, fun i hi => ?_⟩, ⟨?_, e1.2⟩, ⟨?_, f1.2⟩⟩
  · rw [sf_uf, if_neg (by omega)]; exact a1.1
  · rw [sf_uf, if_neg (by omega)]; exact b1.1
  · rw [sf_uf, if_neg (by omega)]; exact c1.1
  · rw [sf_uf, if_pos ⟨rfl, rfl⟩]; show _ = nI (eCl E ++ [_]).length; rw [List.length_append]; rfl
  · show (eCl E ++ [_]).length ≤ 16; rw [List.length_append, List.length_singleton]; omega
  · have hk' : i < (eCl E ++ [(w, v)]).length := hi
    show sg σ 18 _ = pk (eCl E ++ [(w, v)])[i].1 ∧ sf σ 19 _ = (eCl E ++ [(w, v)])[i].2
    rw [List.length_append, List.length_singleton] at hk'
    rcases Nat.lt_or_ge i (eCl E).length with z | z
    · simp only [List.getElem_append_left z]; exact d3 i z
    · have : i = (eCl E).length := by omega
      subst this
      simp only [List.getElem_append_right (Nat.le_refl _), Nat.sub_self, List.getElem_singleton]
      exact ⟨g1, g2⟩
  · rw [sf_uf, if_neg (by omega)]; exact e1.1
  · rw [sf_uf, if_neg (by omega)]; exact f1.1
theorem tn_classOf {bs : List Nat} {σ : TS} {c : Nat} {E : Ed} {w : List Nat} {post : Int32 → TS → Prop} (hR : RepT σ c E) (hn : ∀ c ∈ eCl E, isNm c.1) (hw : isNm w) (hp : post (if clI E w < (eCl E).length then nI (clI E w) else -1) σ) : wp_classOf post σ (nI c) (pk w) := by
  obtain ⟨hc, -, -, -, ⟨a1, a2, a3⟩, -⟩ := hR
  have hle : clI E w ≤ (eCl E).length := List.findIdx_le_length
  obtain ⟨i1, i2, i3⟩ := nI7 hc (show 3 < 7 by omega)
  refine ⟨fun n z x => ∃ j, j ≤ clI E w ∧ n = (eCl E).length - j ∧ z = σ ∧ x = nI j, ⟨_, 0, Nat.zero_le _, rfl, rfl, rfl⟩, ?_⟩
  rintro n2 z3 x6 ⟨j, hj, hnn, rfl, hx⟩
  unfold wp_classes
  rw [i1, i2, a1, hx]
  refine ⟨i3, fun z => ?_, fun z => ?_⟩
  · have : (eCl E).length ≤ j := (nI_leI (by omega) (by omega)).mp z
    rw [if_neg (by omega)] at hp
    exact hp
  · have hlt : j < (eCl E).length := by
      rcases Nat.lt_or_ge j (eCl E).length with y | y
      · exact y
      · exact absurd (nI_le y (by omega)) z
    have e6 : nI 16 * nI c + nI j = nI (16 * c + j) := by rw [nI_mul, nI_add]
    rw [e6, nI_clamp (by omega), (a3 j hlt).1]
    have inj := pk_inj (hn _ (List.getElem_mem hlt)) hw
    refine ⟨vp_inN (by omega) (by omega), fun y => ?_, fun y => ?_⟩
    · have hne : ¬ (eCl E)[j].1 = w := fun v => y (inj.mpr v)
      have : j ≠ clI E w := by
        intro v
        have hl : clI E w < (eCl E).length := by omega
        have := List.findIdx_getElem (w := (show (eCl E).findIdx (fun c => decide (c.1 = w)) < (eCl E).length from hl))
        have h2 := of_decide_eq_true this
        apply hne
        have : (eCl E)[j] = (eCl E)[(eCl E).findIdx (fun c => decide (c.1 = w))] := by congr 1
        rw [this]
        exact h2
      exact ⟨(eCl E).length - (j + 1), by omega, j + 1, by omega, rfl, rfl, nI_add j 1⟩
    · have he : (eCl E)[j].1 = w := inj.mp y
      have : clI E w ≤ j := by
        rcases Nat.lt_or_ge j (clI E w) with v | v
        · exact absurd (decide_eq_true he) (Bool.eq_false_iff.mp (List.not_of_lt_findIdx v))
        · exact v
      have ej : j = clI E w := by omega
      rw [if_pos (by omega), ← ej] at hp
      exact hp
/-- writes on the draft's side -/
theorem TT.edit {c : Nat} {σ0 : TS} {bs : List Nat} {o t : Nat} {σ : TS} {s : PS} {k i : Nat} {v : Int32} {E : Ed} (h : TT c σ0 bs o t σ s) (h1 : 3 ≤ k) (h2 : k ≤ 28) (h3 : i / Wd k = c) (hR : RepT (uf σ k i v) c E) (hn : nmS E) : TT c σ0 bs o t (uf σ k i v) (sEd s E) := by
  obtain ⟨⟨a1, a2, a3, a4, a5⟩, ⟨b1, b2⟩, b3, b4, b5⟩ := h
  exact ⟨⟨a1.uf (Or.inl ⟨h1, h2, h3⟩), a2.uf (by omega), hR, a4, hn⟩, ⟨b1.wr (by omega) (by omega) (by omega), b2.wr (by omega) (by omega) (by omega)⟩, b3, b4, b5⟩
def jNd (s : PS) (v : Int32) (t : Nat) : PS := sEd s (uNd (pE s) (eNd (pE s) ++ [(v, 0, 0, 0, t)]))
theorem tn_nodes {σ : TS} {c n : Nat} {E : Ed} {post : Int32 → TS → Prop} (hR : RepT σ c E) (h31 : sx σ 31 = nI c) (hn : (eNd E).length = n) (hp : post (nI n) σ) : wp_nodes post σ (sx σ 31) := by
  subst hn
  obtain ⟨i1, i2, i3⟩ := nI7 hR.1 (show 4 < 7 by omega)
  unfold wp_nodes
  rw [h31, i1, i2, hR.2.2.2.2.2.1.1]
  exact ⟨i3, hp⟩
theorem tn_classes {σ : TS} {c n : Nat} {E : Ed} {post : Int32 → TS → Prop} (hR : RepT σ c E) (h31 : sx σ 31 = nI c) (hn : (eCl E).length = n) (hp : post (nI n) σ) : wp_classes post σ (sx σ 31) := by
  subst hn
  obtain ⟨i1, i2, i3⟩ := nI7 hR.1 (show 3 < 7 by omega)
  unfold wp_classes
  rw [h31, i1, i2, hR.2.2.2.2.1.1]
  exact ⟨i3, hp⟩
theorem tt_newNode {c : Nat} {σ0 : TS} {bs : List Nat} {o t : Nat} {σ : TS} {s : PS} {α : Type} {post : Int32 → TS → Prop} (h : TT c σ0 bs o t σ s) (h1 : ndL s < 40 → ∀ σ' v, TT c σ0 bs o t σ' (jNd s v t) → post (nI (ndL s)) σ') (h2 : ndL s = 40 → ∀ σ' f, BD c σ0 σ' f → (er s 4 : Except Nat α) = .error f → post (nI 0) σ') : wp_newNode post σ := by
  have hR := h.1.2.2.1
  have h31 := h.1.2.2.2.1
  have hc3 := hR.1
  obtain ⟨i1, i2, i3⟩ := nI7 hc3 (show 4 < 7 by omega)
  have hcnt : sf σ 3 (7 * c + 4) = nI (ndL s) := hR.2.2.2.2.2.1.1
  have hle : ndL s ≤ 40 := hR.2.2.2.2.2.1.2.1
  refine tn_nodes (n := ndL s) hR h31 rfl ?_
  show (¬ nI (ndL s) = _ → _) ∧ _
  rw [h31, i1, i2, hcnt]
  refine ⟨fun z => ⟨i3, i3, fun z4 hz4 => ?_⟩, fun z => ?_⟩
  · have hlt : ndL s < 40 := by
      have : ndL s ≠ 40 := fun w => z (by rw [w])
      omega
    have c4 : sx z4 31 = nI c := by rw [hz4, sx_uf]; exact h31
    have t4 : sx z4 61 = nI t := by rw [hz4, sx_uf]; exact h.2.2.2.1
    rw [c4, t4, nI_mul, nI_add, nI_clamp (by omega)]
    refine ⟨vp_inN (by omega) (by omega), fun z5 hz5 => h1 hlt z5 (sf σ 20 (40 * c + ndL s)) ?_⟩
    rw [nI_add] at hz4
    have R5 := hR.addNd (t := t) hlt
    obtain ⟨⟨a1, a2, a3, a4, a5⟩, ⟨b1, b2⟩, b3, b4, b5⟩ := h
    rw [hz5, hz4]
    refine ⟨⟨(a1.uf (Or.inl ⟨by omega, by omega, by show _ / 7 = c; omega⟩)).uf (Or.inl ⟨by omega, by omega, by show _ / 40 = c; omega⟩), (a2.uf (by omega)).uf (by omega), R5, a4, a5⟩, ⟨(b1.wr (by omega) (by omega) (by omega)).wr (by omega) (by omega) (by omega), (b2.wr (by omega) (by omega) (by omega)).wr (by omega) (by omega) (by omega)⟩, b3, b4, b5⟩
  · have h40 : ndL s = 40 := (nI_eq (by omega) (by omega)).mp z
    exact tn_wrong (α := α) h.lk (by omega) (fun z' f n g e => h2 h40 z' f ⟨h.pf.nf n, g⟩ e)
theorem clI_le (E : Ed) (w : List Nat) : clI E w ≤ (eCl E).length := List.findIdx_le_length
theorem tt_leaf {c : Nat} {σ0 : TS} {bs : List Nat} {o t : Nat} {σ : TS} {s : PS} {post : Int32 → TS → Prop} (h : TT c σ0 bs o t σ s) (h1 : ∀ q σ', pLeaf bs t s = .ok q → TT c σ0 bs o t σ' q.2 → post (nI q.1) σ') (h2 : ∀ f σ' v, pLeaf bs t s = .error f → BD c σ0 σ' f → post v σ') : wp_leaf post σ := by
  have hR0 := h.1.2.2.1
  have hcl : (eCl (pE s)).length ≤ 16 := hR0.2.2.2.2.1.2.1
  have hc3 := hR0.1
  obtain ⟨i1, i2, i3⟩ := nI7 hc3 (show 3 < 7 by omega)
  refine tt_newNode (α := Nat × PS) h (fun hlt z1 vj T1 => ?_) (fun h40 z1 f g e => ?_)
  · have p40 : ¬ ndL s = 40 := by omega
    refine tn_nxt T1.lk (fun z3 n3 L3 _ => tn_name (α := Nat × PS) (s := nxt bs s) L3 (fun hk hnm => ?_) (fun z4 f v n4 g hk e => ⟨fun z => absurd z g.nle, fun _ => h2 f z4 _ ?_ ⟨T1.pf.nf (n3.tr n4), g⟩⟩))
    · refine ⟨fun _ => ?_, fun z => absurd L3.le z⟩
      have T3 : TT c σ0 bs o t z3 (nxt bs (jNd s vj t)) := T1.nf n3 L3 rfl
      have R3 := T3.1.2.2.1
      have c31 : sx z3 31 = nI c := T3.1.2.2.2.1
      have cl3 : sf z3 3 (7 * c + 3) = nI (eCl (pE s)).length := R3.2.2.2.2.1.1
      have kle := clI_le (pE s) (pW (nxt bs s))
      refine ⟨fun z x => (NF z3 z ∧ LK bs z (nxt bs s).1 ∧ x = (if clI (pE s) (pW (nxt bs s)) < (eCl (pE s)).length then nI (clI (pE s) (pW (nxt bs s))) else -1) ∧ ¬ clI (pE s) (pW (nxt bs s)) = 16) ∨ (∃ f, BD c σ0 z f ∧ pLeaf bs t s = .error f), ?_, ?_⟩
      · intro z9 x10 J7
        refine ⟨fun z => (NF z3 z ∧ LK bs z (nxt bs (nxt bs s)).1 ∧ ¬ clI (pE s) (pW (nxt bs s)) = 16 ∧ x10 = (if clI (pE s) (pW (nxt bs s)) < (eCl (pE s)).length then nI (clI (pE s) (pW (nxt bs s))) else -1) ∧ pK (nxt bs (nxt bs s)) = 3) ∨ (∃ f, BD c σ0 z f ∧ pLeaf bs t s = .error f), ?_, ?_⟩
        · intro z13 J11
          refine ⟨fun z => (NF z3 z ∧ LK bs z (nxt bs (nxt bs s)).1 ∧ ¬ clI (pE s) (pW (nxt bs s)) = 16 ∧ x10 = (if clI (pE s) (pW (nxt bs s)) < (eCl (pE s)).length then nI (clI (pE s) (pW (nxt bs s))) else -1) ∧ pK (nxt bs (nxt bs s)) = 3 ∧ (1 ≤ pNm (nxt bs (nxt bs s)) ∧ pNm (nxt bs (nxt bs s)) ≤ 999)) ∨ (∃ f, BD c σ0 z f ∧ pLeaf bs t s = .error f), ?_, ?_⟩
          · intro z16 J14
            refine ⟨fun z => (NF z3 z ∧ LK bs z (nxt bs (nxt bs s)).1 ∧ ¬ clI (pE s) (pW (nxt bs s)) = 16 ∧ x10 = (if clI (pE s) (pW (nxt bs s)) < (eCl (pE s)).length then nI (clI (pE s) (pW (nxt bs s))) else -1) ∧ pK (nxt bs (nxt bs s)) = 3 ∧ (1 ≤ pNm (nxt bs (nxt bs s)) ∧ pNm (nxt bs (nxt bs s)) ≤ 999) ∧ (((eCl (pE s))[clI (pE s) (pW (nxt bs s))]?).map (fun x => x.2)).getD (nI (pNm (nxt bs (nxt bs s)))) = nI (pNm (nxt bs (nxt bs s)))) ∨ (∃ f, BD c σ0 z f ∧ pLeaf bs t s = .error f), ?_, ?_⟩
            · rintro z19 (⟨N, L, k16, hx10, k3, kb, kw⟩ | ⟨f, g, e⟩) x20 hx20
              · have e47 : sx z19 47 = nI (pNm (nxt bs (nxt bs s))) := L.2.2.1.2.2.2.2 (Or.inr (Or.inl k3))
                refine tn_nxt L (fun z21 n21 L21 _ => ⟨fun _ => ?_, fun z => absurd L21.le z⟩)
                have eO : pLeaf bs t s = .ok ((eNd (pE s)).length, sEd (nxt bs (nxt bs (nxt bs s))) (uCl (uNd (pE s) (eNd (pE s) ++ [(nI (clI (pE s) (pW (nxt bs s))), 0, 0, 0, t)])) (if clI (pE s) (pW (nxt bs s)) = (eCl (pE s)).length then eCl (pE s) ++ [(pW (nxt bs s), nI (pNm (nxt bs (nxt bs s))))] else eCl (pE s)))) := by
                  unfold pLeaf
                  rw [if_neg p40, if_neg (by rw [hk]; decide), if_neg k16, if_neg (fun w => w k3), if_neg (fun w => w kb), if_neg (fun w => w kw)]
                have N21 := N.tr n21
                have T21 : TT c σ0 bs o t z21 (sEd (nxt bs (nxt bs (nxt bs s))) (pE (jNd s vj t))) := T3.nf (s' := sEd (nxt bs (nxt bs (nxt bs s))) (pE (jNd s vj t))) N21 L21 rfl
                refine ⟨fun z x => x = nI (clI (pE s) (pW (nxt bs s))) ∧ TT c σ0 bs o t z (sEd (nxt bs (nxt bs (nxt bs s))) (uCl (uNd (pE s) (eNd (pE s) ++ [(vj, 0, 0, 0, t)])) (if clI (pE s) (pW (nxt bs s)) = (eCl (pE s)).length then eCl (pE s) ++ [(pW (nxt bs s), nI (pNm (nxt bs (nxt bs s))))] else eCl (pE s)))), ?_, ?_⟩
                · rintro z25 x26 ⟨hx26, T25⟩
                  have c25 : sx z25 31 = nI c := T25.1.2.2.2.1
                  rw [c25, nI_mul, nI_add, nI_clamp (by omega), hx26]
                  refine ⟨vp_inN (by omega) (by omega), fun z27 hz27 => h1 _ z27 eO ?_⟩
                  have hset : (eNd (pE s) ++ [(vj, 0, 0, 0, t)]).set (ndL s) (nI (clI (pE s) (pW (nxt bs s))), 0, 0, 0, t) = eNd (pE s) ++ [(nI (clI (pE s) (pW (nxt bs s))), 0, 0, 0, t)] := by
                    rw [List.set_append_right _ _ (Nat.le_refl _), Nat.sub_self]
                    rfl
                  have R25 : RepT (uf z25 20 (40 * c + ndL s) (nI (clI (pE s) (pW (nxt bs s))))) c (uCl (uNd (pE s) ((eNd (pE s) ++ [(vj, 0, 0, 0, t)]).set (ndL s) (nI (clI (pE s) (pW (nxt bs s))), 0, 0, 0, t))) (if clI (pE s) (pW (nxt bs s)) = (eCl (pE s)).length then eCl (pE s) ++ [(pW (nxt bs s), nI (pNm (nxt bs (nxt bs s))))] else eCl (pE s))) := T25.1.2.2.1.set20 (n := ndL s) (t := t) (v' := vj) (v := nI (clI (pE s) (pW (nxt bs s)))) (by
                    show (eNd (pE s) ++ [(vj, 0, 0, 0, t)])[ndL s]? = _
                    rw [List.getElem?_append_right (Nat.le_refl _), Nat.sub_self]
                    rfl)
                  rw [hset] at R25
                  rw [hz27]
                  refine T25.edit (by omega) (by omega) (by show _ / 40 = c; omega) ?_ T25.1.2.2.2.2
                  exact R25
                · by_cases hkn : clI (pE s) (pW (nxt bs s)) < (eCl (pE s)).length
                  · rw [hx10, if_pos hkn]
                    refine ⟨fun _ => ⟨rfl, ?_⟩, fun z => absurd (nI_pos' (by omega)) z⟩
                    rw [if_neg (by omega)]
                    exact T21
                  · have hke : clI (pE s) (pW (nxt bs s)) = (eCl (pE s)).length := by omega
                    rw [hx10, if_neg hkn]
                    refine ⟨fun z => absurd z (by decide), fun _ => ?_⟩
                    have c21 : sx z21 31 = nI c := T21.1.2.2.2.1
                    have cl21 : sf z21 3 (7 * c + 3) = nI (eCl (pE s)).length := T21.1.2.2.1.2.2.2.2.1.1
                    refine tn_classes (n := (eCl (pE s)).length) T21.1.2.2.1 c21 rfl ?_
                    show vp_in (nI 16 * sx z21 31 + nI (eCl (pE s)).length) 48 ∧ _
                    rw [c21, nI_mul, nI_add, nI_clamp (by omega)]
                    refine ⟨vp_inN (by omega) (by omega), fun z31 hz31 => ?_⟩
                    have c31' : sx z31 31 = nI c := by rw [hz31, sx_ug]; exact c21
                    rw [c31', nI_mul, nI_add, nI_clamp (by omega)]
                    refine ⟨vp_inN (by omega) (by omega), fun z32 hz32 => ?_⟩
                    have c32 : sx z32 31 = nI c := by rw [hz32, sx_uf]; exact c31'
                    have nu : ∀ k, k = 18 ∨ k = 19 → ¬ usd c (pE (jNd s vj t)) k (16 * c + (eCl (pE s)).length) := by
                      intro k hk u
                      unfold usd at u
                      have e : eCl (pE (jNd s vj t)) = eCl (pE s) := rfl
                      rw [e] at u
                      omega
                    have R32 : RepT z32 c (pE (jNd s vj t)) := by rw [hz32, hz31]; exact (T21.1.2.2.1.pug (nu _ (Or.inl rfl))).puf (nu _ (Or.inr rfl))
                    have T32 : TT c σ0 bs o t z32 (sEd (nxt bs (nxt bs (nxt bs s))) (pE (jNd s vj t))) := by
                      obtain ⟨⟨a1, a2, a3, a4, a5⟩, ⟨b1, b2⟩, b3, b4, b5⟩ := T21
                      refine ⟨⟨?_, ?_, R32, c32, a5⟩, ⟨?_, ?_⟩, ?_, ?_, b5⟩
                      · rw [hz32, hz31]
                        exact (a1.ug ⟨Or.inr rfl, by show _ / 16 = c; omega⟩).uf (Or.inl ⟨by omega, by omega, by show _ / 16 = c; omega⟩)
                      · rw [hz32, hz31]; exact (a2.ug).uf (by omega)
                      · rw [hz32, hz31]; exact atT.wr (σ := ug z21 18 _ _) b1 (by omega) (by omega) (by omega)
                      · rw [hz32, hz31]; exact atT.wr (σ := ug z21 18 _ _) b2 (by omega) (by omega) (by omega)
                      · rw [hz32, hz31]; exact b3
                      · rw [hz32, hz31]; exact b4
                    have cl32 : sf z32 3 (7 * c + 3) = nI (eCl (pE s)).length := R32.2.2.2.2.1.1
                    rw [c32, i1, i2, cl32]
                    refine ⟨i3, i3, fun z33 hz33 => ⟨by rw [hke], ?_⟩⟩
                    rw [nI_add] at hz33
                    rw [if_pos hke, hz33]
                    refine T32.edit (by omega) (by omega) (by show _ / 7 = c; omega) ?_ ⟨T32.1.2.2.2.2.1, fun x hx => ?_⟩
                    · refine R32.addCl (w := pW (nxt bs s)) (v := nI (pNm (nxt bs (nxt bs s)))) (by show (eCl (pE s)).length < 16; omega) ?_ ?_
                      · rw [hz32, sg_uf, hz31, sg_ug]; exact if_pos ⟨rfl, rfl⟩
                      · rw [hz32, sf_uf]; refine (if_pos ⟨rfl, rfl⟩).trans ?_; rw [hx20]; exact e47
                    · rcases List.mem_append.mp hx with y | y
                      · exact h.1.2.2.2.2.2 x y
                      · rw [List.mem_singleton.mp y]; exact hnm
              · exact tb_next g.2 ⟨fun z => absurd z g.2.nle, fun _ => h2 f z19 _ e g⟩
            · rcases J14 with ⟨N, L, k16, hx10, k3, kb⟩ | ⟨f, g, e⟩
              · have e47 : sx z16 47 = nI (pNm (nxt bs (nxt bs s))) := L.2.2.1.2.2.2.2 (Or.inr (Or.inl k3))
                have hNm : pNm (nxt bs (nxt bs s)) < 1500 := L.2.2.2.2.2.2.2.2.2.1
                refine ⟨fun z => absurd L.2.1 z, fun _ => ?_⟩
                by_cases hkn : clI (pE s) (pW (nxt bs s)) < (eCl (pE s)).length
                · have c16 : sx z16 31 = nI c := (N.1 31 (by omega)).trans c31
                  have hrow : sf z16 19 (16 * c + clI (pE s) (pW (nxt bs s))) = (eCl (pE s))[clI (pE s) (pW (nxt bs s))].2 := (N.2.2 19 _).trans (R3.2.2.2.2.1.2.2 _ hkn).2
                  rw [hx10, if_pos hkn, c16, nI_mul, nI_add, nI_clamp (by omega), hrow, e47]
                  refine ⟨fun z => absurd z (nI_pos (by omega)), fun _ => ⟨vp_inN (by omega) (by omega), fun w => Or.inl ⟨N, L, k16, rfl, k3, kb, ?_⟩, fun w => tn_wrong (α := Nat × PS) L (by omega) (fun z f n g e => Or.inr ⟨f, ⟨(T3.pf.nf N).nf n, g⟩, ?_⟩)⟩⟩
                  · rw [List.getElem?_eq_getElem hkn]; exact w
                  · unfold pLeaf
                    rw [if_neg p40, if_neg (by rw [hk]; decide), if_neg k16, if_neg (fun w => w k3), if_neg (fun w => w kb), if_pos (by rw [List.getElem?_eq_getElem hkn]; exact w)]
                    exact e
                · rw [hx10, if_neg hkn]
                  refine ⟨fun _ => Or.inl ⟨N, L, k16, rfl, k3, kb, ?_⟩, fun z => absurd (by decide) z⟩
                  rw [List.getElem?_eq_none (by omega)]
                  rfl
              · exact ⟨fun _ => Or.inr ⟨f, g, e⟩, fun z => absurd z g.2.ne⟩
          · rcases J11 with ⟨N, L, k16, hx10, k3⟩ | ⟨f, g, e⟩
            · have e47 : sx z13 47 = nI (pNm (nxt bs (nxt bs s))) := L.2.2.1.2.2.2.2 (Or.inr (Or.inl k3))
              have hNm : pNm (nxt bs (nxt bs s)) < 1500 := L.2.2.2.2.2.2.2.2.2.1
              refine ⟨fun z => absurd L.2.1 z, fun _ => ?_⟩
              rw [e47]
              refine tsp_within ⟨fun w => Or.inl ⟨N, L, k16, hx10, k3, ?_⟩, fun w => tn_wrong (α := Nat × PS) L (by omega) (fun z f n g e => Or.inr ⟨f, ⟨(T3.pf.nf N).nf n, g⟩, ?_⟩)⟩
              · have := wthn_iff.mp w
                rw [nI_toInt (by omega), nI_toInt (by omega), nI_toInt (by omega)] at this
                omega
              · unfold pLeaf
                rw [if_neg p40, if_neg (by rw [hk]; decide), if_neg k16, if_neg (fun w => w k3), if_pos (fun v => ?_)]
                · exact e
                · rw [wthn_iff.mpr ⟨by rw [nI_toInt (by omega), nI_toInt (by omega)]; omega, by rw [nI_toInt (by omega), nI_toInt (by omega)]; omega⟩] at w
                  cases w
            · exact ⟨fun _ => Or.inr ⟨f, g, e⟩, fun z => absurd z g.2.ne⟩
        · rcases J7 with ⟨N, L, hx10, k16⟩ | ⟨f, g, e⟩
          · refine tn_nxt L (fun z46 n46 L46 _ => ⟨fun z => absurd L46.2.1 z, fun _ => ?_⟩)
            have hK : pK (nxt bs (nxt bs s)) ≤ 5 := L46.2.2.2.2.2.2.2.2.2.2.1
            rw [L46.2.2.1.2.2.1]
            refine ⟨fun z => Or.inl ⟨N.tr n46, L46, k16, hx10, (nI_eq (show pK (nxt bs (nxt bs s)) < 2 ^ 31 by omega) (by omega)).mp z⟩, fun z => tn_wrong (α := Nat × PS) L46 (by omega) (fun z' f n g e => Or.inr ⟨f, ⟨(T3.pf.nf (N.tr n46)).nf n, g⟩, ?_⟩)⟩
            unfold pLeaf
            rw [if_neg p40, if_neg (by rw [hk]; decide), if_neg k16, if_pos (fun w => z (congrArg nI w))]
            exact e
          · exact tb_next g.2 ⟨fun _ => Or.inr ⟨f, g, e⟩, fun z => absurd z g.2.ne⟩
      · rw [c31]
        refine tn_classOf (bs := bs) R3 T3.1.2.2.2.2.2 hnm ?_
        have eE : eCl (pE (nxt bs (jNd s vj t))) = eCl (pE s) := rfl
        have eI : clI (pE (nxt bs (jNd s vj t))) (pW (nxt bs s)) = clI (pE s) (pW (nxt bs s)) := rfl
        rw [eE, eI]
        by_cases hkn : clI (pE s) (pW (nxt bs s)) < (eCl (pE s)).length
        · rw [if_pos hkn]
          exact ⟨fun _ => Or.inl ⟨NF.rf z3, L3, rfl, by omega⟩, fun z => absurd (nI_pos' (by omega)) z⟩
        · rw [if_neg hkn]
          refine ⟨fun z => absurd z (by decide), fun _ => ?_⟩
          refine tn_classes (n := (eCl (pE s)).length) R3 c31 rfl ?_
          show (¬ nI (eCl (pE s)).length = _ → _) ∧ _
          refine ⟨fun z => Or.inl ⟨NF.rf z3, L3, rfl, fun w => z ?_⟩, fun z => tn_wrong (α := Nat × PS) (s := nxt bs s) L3 (by omega) (fun z' f n g e => Or.inr ⟨f, ⟨T3.pf.nf n, g⟩, ?_⟩)⟩
          · rw [show (eCl (pE s)).length = 16 by omega]
          · have : (eCl (pE s)).length = 16 := (nI_eq (by omega) (by omega)).mp z
            unfold pLeaf
            rw [if_neg p40, if_neg (by rw [hk]; decide), if_pos (by omega)]
            exact e
    · unfold pLeaf
      rw [if_neg p40, if_pos hk]
      exact e
  · refine tb_next g.2 (tb_name g.2 (fun v => ⟨fun z => absurd z g.2.nle, fun _ => h2 f z1 _ ?_ g⟩))
    unfold pLeaf
    rw [if_pos h40]
    exact e
