/-! The model's parser: the tree's line; bytes of a line -/
set_option maxRecDepth 100000
theorem pSpans_pg {bs : List Nat} : ∀ (f : Nat) (acc : List Sp) (s : PS) (r : List Sp × PS), tkB bs s.1 → pSpans bs f acc s = .ok r → tkB bs r.2.1 ∧ pAt s + 3 ≤ pAt r.2 ∧ r.2.2 = s.2 := by
  intro f
  induction f with
  | zero => intro acc s r _ h; cases h
  | succ f ih =>
    intro acc s r hb h
    obtain ⟨v, h1, h2⟩ := bnd_ok (show bnd (pSpan bs false (decide (acc.length = 3)) s) (fun r => if isS r.2 44 = true then pSpans bs f (acc ++ [r.1]) (nxt bs r.2) else .ok (acc ++ [r.1], r.2)) = .ok r from h)
    obtain ⟨a1, a2⟩ := pSpan_pg (sp := v.1) (s' := v.2) hb h1
    have a3 := (pSpan_ok (sp := v.1) (s' := v.2) h1).1
    have h2' : (if isS v.2 44 = true then pSpans bs f (acc ++ [v.1]) (nxt bs v.2) else .ok (acc ++ [v.1], v.2)) = .ok r := h2
    split at h2'
    · next hS =>
      have n1 := nxt_b a1
      have e1 := isS_p a1 hS
      obtain ⟨b1, b2, b3⟩ := ih _ _ r n1.1 h2'
      exact ⟨b1, by omega, by rw [b3]; exact a3⟩
    · cases h2'
      exact ⟨a1, a2, a3⟩
def LG (bs : List Nat) (s q : PS) : Prop := tkB bs q.1 ∧ pAt s + 1 ≤ pAt q ∧ pAt s + 3 * cnL q ≤ pAt q + 3 * cnL s ∧ (ndL s ≤ 40 → ndL q ≤ 40)
theorem pChapter_lg {bs : List Nat} {s q : PS} (hb : tkB bs s.1) (hw : pK s ≠ 0) (h : pChapter bs s = .ok q) : LG bs s q := by
  unfold pChapter at h
  split at h
  · cases h
  · split at h
    · cases h
    · split at h
      · cases h
      · obtain ⟨r, h1, h2⟩ := bnd_ok h
        cases h2
        have n1 := nxt_b hb
        have n2 := nxt_b n1.1
        have e1 := tk_p hb hw
        have hat2 : pAt (nxt bs s) ≤ pP (nxt bs s) := n1.1.1
        obtain ⟨a1, a2, a3⟩ := pSpans_pg 4 [] _ r n2.1 h1
        have ec : cnL r.2 = cnL s := by show (eCn r.2.2.1).length = _; rw [a3]; rfl
        have en : ndL r.2 = ndL s := by show (eNd r.2.2.1).length = _; rw [a3]; rfl
        refine ⟨a1, ?_, ?_, fun z => ?_⟩
        · show pAt s + 1 ≤ pAt r.2; omega
        · show pAt s + 3 * cnL r.2 ≤ pAt r.2 + 3 * cnL s; omega
        · show ndL r.2 ≤ 40; omega
theorem pRank_lg {bs : List Nat} {s q : PS} (hb : tkB bs s.1) (hw : pK s ≠ 0) (h : pRank bs s = .ok q) : LG bs s q := by
  unfold pRank at h
  split at h
  · cases h
  · obtain ⟨r, h1, h2⟩ := bnd_ok h
    obtain ⟨v, h3, h4⟩ := bnd_ok h2
    cases h4
    have n1 := nxt_b hb
    have e1 := tk_p hb hw
    obtain ⟨a1, a2⟩ := pSpan_pg (sp := r.1) (s' := r.2) n1.1 h1
    have a3 := (pSpan_ok (sp := r.1) (s' := r.2) h1).1
    obtain ⟨b1, b2⟩ := pNum_pg (v := v.1) (s' := v.2) a1 h3
    have b3 := (pNum_ok (v := v.1) (s' := v.2) h3).1
    have ec : cnL v.2 = cnL s := by show (eCn v.2.2.1).length = _; rw [b3, a3]; rfl
    have en : ndL v.2 = ndL s := by show (eNd v.2.2.1).length = _; rw [b3, a3]; rfl
    refine ⟨b1, ?_, ?_, fun z => ?_⟩
    · show pAt s + 1 ≤ pAt v.2; omega
    · show pAt s + 3 * cnL v.2 ≤ pAt v.2 + 3 * cnL s; omega
    · show ndL v.2 ≤ 40; omega
theorem pPartner_lg {bs : List Nat} {s q : PS} (hb : tkB bs s.1) (hw : pK s ≠ 0) (h : pPartner bs s = .ok q) : LG bs s q := by
  unfold pPartner at h
  split at h
  · cases h
  · obtain ⟨r, h1, h2⟩ := bnd_ok h
    obtain ⟨v, h3, h4⟩ := bnd_ok h2
    have n1 := nxt_b hb
    have e1 := tk_p hb hw
    obtain ⟨a1, a2⟩ := pSpan_pg (sp := r.1) (s' := r.2) n1.1 h1
    have a3 := (pSpan_ok (sp := r.1) (s' := r.2) h1).1
    obtain ⟨b1, b2⟩ := pNum_pg (v := v.1) (s' := v.2) a1 h3
    have b3 := (pNum_ok (v := v.1) (s' := v.2) h3).1
    have ec : cnL v.2 = cnL s := by show (eCn v.2.2.1).length = _; rw [b3, a3]; rfl
    have en : ndL v.2 = ndL s := by show (eNd v.2.2.1).length = _; rw [b3, a3]; rfl
    split at h4
    · obtain ⟨u, h5, h6⟩ := bnd_ok h4
      cases h6
      have n2 := nxt_b b1
      have hv : pAt v.2 ≤ pP v.2 := b1.1
      obtain ⟨c1, c2, c3⟩ := pSpans_pg 4 [] _ u n2.1 h5
      have ec2 : cnL u.2 = cnL v.2 := by show (eCn u.2.2.1).length = _; rw [c3]; rfl
      have en2 : ndL u.2 = ndL v.2 := by show (eNd u.2.2.1).length = _; rw [c3]; rfl
      refine ⟨c1, ?_, ?_, fun z => ?_⟩
      · show pAt s + 1 ≤ pAt u.2; omega
      · show pAt s + 3 * cnL u.2 ≤ pAt u.2 + 3 * cnL s; omega
      · show ndL u.2 ≤ 40; omega
    · cases h4
      refine ⟨b1, ?_, ?_, fun z => ?_⟩
      · show pAt s + 1 ≤ pAt v.2; omega
      · show pAt s + 3 * cnL v.2 ≤ pAt v.2 + 3 * cnL s; omega
      · show ndL v.2 ≤ 40; omega
theorem pTree_ok {bs : List Nat} {s q : PS} (h : pTree bs s = .ok q) : nameOk (nxt bs s) = true ∧ ∃ (c : Ch) (r : Nat × PS), (eCh (pE s))[chI (pE s) (pW (nxt bs s))]? = some c ∧ ¬ 0 ≤ c.2.2 ∧ pN bs (chI (pE s) (pW (nxt bs s))) 9 ((nxt bs (nxt bs s)).1, pE s, []) = .ok r ∧ q = sEd r.2 (uCh (pE r.2) ((eCh (pE r.2)).set (chI (pE s) (pW (nxt bs s))) (c.1, c.2.1, nI r.1))) := by
  unfold pTree at h
  split at h
  · cases h
  · next hn =>
    cases hc : (eCh (pE s))[chI (pE s) (pW (nxt bs s))]? with
    | none => rw [hc] at h; cases h
    | some c =>
      rw [hc] at h
      by_cases h0 : 0 ≤ c.2.2
      · have h' : (if 0 ≤ c.2.2 then er (nxt bs s) 3 else bnd (pN bs (chI (pE s) (pW (nxt bs s))) 9 ((nxt bs (nxt bs s)).1, pE s, [])) (fun r => .ok (sEd r.2 (uCh (pE r.2) ((eCh (pE r.2)).set (chI (pE s) (pW (nxt bs s))) (c.1, c.2.1, nI r.1)))))) = Except.ok q := h
        rw [if_pos h0] at h'
        cases h'
      · have h' : (if 0 ≤ c.2.2 then er (nxt bs s) 3 else bnd (pN bs (chI (pE s) (pW (nxt bs s))) 9 ((nxt bs (nxt bs s)).1, pE s, [])) (fun r => .ok (sEd r.2 (uCh (pE r.2) ((eCh (pE r.2)).set (chI (pE s) (pW (nxt bs s))) (c.1, c.2.1, nI r.1)))))) = Except.ok q := h
        rw [if_neg h0] at h'
        obtain ⟨r, h1, h2⟩ := bnd_ok h'
        cases h2
        exact ⟨by simpa using hn, c, r, rfl, h0, h1, rfl⟩
theorem pTree_lg {bs : List Nat} {s q : PS} (hb : tkB bs s.1) (h40 : ndL s ≤ 40) (hw : pK s ≠ 0) (h : pTree bs s = .ok q) : LG bs s q := by
  obtain ⟨hn, c, r, hc, h0, h1, rfl⟩ := pTree_ok h
  have n1 := nxt_b hb
  have n2 := nxt_b n1.1
  have e1 := tk_p hb hw
  have hat2 : pAt (nxt bs s) ≤ pP (nxt bs s) := n1.1.1
  obtain ⟨k1, k2, k3, k4, k5, k6, k7, k8⟩ := pN_ng 9 ((nxt bs (nxt bs s)).1, pE s, []) r n2.1 h40 h1
  have ea : pAt ((nxt bs (nxt bs s)).1, pE s, []) = pAt (nxt bs (nxt bs s)) := rfl
  have ec : cnL ((nxt bs (nxt bs s)).1, pE s, []) = cnL s := rfl
  refine ⟨k1, ?_, ?_, fun _ => k3⟩
  · show pAt s + 1 ≤ pAt r.2; omega
  · show pAt s + 3 * cnL r.2 ≤ pAt r.2 + 3 * cnL s; omega
theorem pKind_lg {bs : List Nat} {s q : PS} (hb : tkB bs s.1) (h40 : ndL s ≤ 40) (hw : pK s ≠ 0) (h : pKind bs s = .ok q) : LG bs s q := by
  unfold pKind at h
  split at h
  · exact pChapter_lg hb hw h
  · split at h
    · exact pRank_lg hb hw h
    · split at h
      · exact pPartner_lg hb hw h
      · split at h
        · exact pTree_lg hb h40 hw h
        · cases h
theorem RepT.setCh {σ : TS} {c i : Nat} {E : Ed} {x : Ch} {v : Int32} (h : RepT σ c E) (hi : (eCh E)[i]? = some x) : RepT (uf σ 8 (6 * c + i) v) c (uCh E ((eCh E).set i (x.1, x.2.1, v))) := by
  obtain ⟨hd, ⟨a1, a2, a3⟩, b1, c1, d1, e1, f1⟩ := h
  have hlt : i < (eCh E).length := by
    rcases Nat.lt_or_ge i (eCh E).length with z | z
    · exact z
    · rw [List.getElem?_eq_none z] at hi; cases hi
  refine ⟨hd, ⟨?_, ?_, fun k hk => ?_⟩, ⟨?_, b1.2⟩, ⟨?_, c1.2⟩, ⟨?_, d1.2⟩, ⟨?_, e1.2⟩, ⟨?_, f1.2⟩⟩
  · rw [sf_uf, if_neg (by omega)]; show _ = nI ((eCh E).set i _).length; rw [List.length_set]; exact a1
  · show ((eCh E).set i _).length ≤ 6; rw [List.length_set]; exact a2
  · have hk' : k < ((eCh E).set i (x.1, x.2.1, v)).length := hk
    show sg σ 4 _ = pk ((eCh E).set i (x.1, x.2.1, v))[k].1 ∧ sf σ 5 _ = nI ((eCh E).set i (x.1, x.2.1, v))[k].2.1.length ∧ ((eCh E).set i (x.1, x.2.1, v))[k].2.1.length ≤ 3 ∧ spsT σ 6 7 _ ((eCh E).set i (x.1, x.2.1, v))[k].2.1 ∧ sf _ 8 _ = ((eCh E).set i (x.1, x.2.1, v))[k].2.2
    rw [List.length_set] at hk'
    by_cases e : i = k
    · subst e
      simp only [List.getElem_set_self]
      have h0 := a3 i hlt
      rw [List.getElem?_eq_getElem hlt] at hi
      rw [Option.some.inj hi] at h0
      exact ⟨h0.1, h0.2.1, h0.2.2.1, h0.2.2.2.1, by rw [sf_uf, if_pos ⟨rfl, rfl⟩]⟩
    · simp only [List.getElem_set_ne e]
      rw [sf_uf, if_neg (by omega)]
      exact a3 k hk'
  · rw [sf_uf, if_neg (by omega)]; exact b1.1
  · rw [sf_uf, if_neg (by omega)]; exact c1.1
  · rw [sf_uf, if_neg (by omega)]; exact d1.1
  · rw [sf_uf, if_neg (by omega)]; exact e1.1
  · rw [sf_uf, if_neg (by omega)]; exact f1.1
theorem pTree_1 {bs : List Nat} {s : PS} (h : nameOk (nxt bs s) = false) : pTree bs s = er (nxt bs s) 1 := if_pos h
theorem pTree_2 {bs : List Nat} {s : PS} (h : nameOk (nxt bs s) = true) (h2 : ¬ chI (pE s) (pW (nxt bs s)) < (eCh (pE s)).length) : pTree bs s = er (nxt bs s) 3 := by
  unfold pTree
  rw [if_neg (by rw [h]; decide), List.getElem?_eq_none (by omega)]
theorem pTree_3 {bs : List Nat} {s : PS} {c : Ch} (h : nameOk (nxt bs s) = true) (h2 : (eCh (pE s))[chI (pE s) (pW (nxt bs s))]? = some c) : pTree bs s = if 0 ≤ c.2.2 then er (nxt bs s) 3 else bnd (pN bs (chI (pE s) (pW (nxt bs s))) 9 ((nxt bs (nxt bs s)).1, pE s, [])) (fun r => .ok (sEd r.2 (uCh (pE r.2) ((eCh (pE r.2)).set (chI (pE s) (pW (nxt bs s))) (c.1, c.2.1, nI r.1))))) := by
  unfold pTree
  rw [if_neg (by rw [h]; decide), h2]
theorem tl_tree {c : Nat} {σ0 : TS} {bs : List Nat} {σ : TS} {s : PS} {post : TS → Prop} (h : TPk c σ0 bs σ s) (hb : 3 * cnL s ≤ pAt s) (hp : ∀ σ', OT c σ0 bs σ' (bnd (pTree bs s) pEnds) → post σ') : wp_treeLine post σ := by
  obtain ⟨hF, hL, hR, h31, hn⟩ := h
  have hc := hR.1
  have hle := hR.2.1.2.1
  generalize hRes : bnd (pTree bs s) pEnds = R at hp
  have bad : ∀ z f, PF c σ0 z → FL z f → R = .error f → post z := by
    intro z f n g e
    refine hp z ?_
    rw [e]
    exact ⟨n, g⟩
  have htb := hL.2.2.2
  have n1 := nxt_b htb
  have n2 := nxt_b n1.1
  have hat1 : pAt s ≤ pP s := htb.1
  have hat2 : pAt (nxt bs s) ≤ pP (nxt bs s) := n1.1.1
  have kle : chI (pE s) (pW (nxt bs s)) ≤ (eCh (pE s)).length := List.findIdx_le_length
  refine ⟨fun z x => (NF σ z ∧ LK bs z (nxt bs s).1 ∧ nameOk (nxt bs s) = true ∧ x = (if chI (pE s) (pW (nxt bs s)) < (eCh (pE s)).length then nI (chI (pE s) (pW (nxt bs s))) else -1)) ∨ (PF c σ0 z ∧ ∃ f, FL z f ∧ R = .error f), ?_, ?_⟩
  · rintro z3 x4 J1
    refine ⟨fun z x => (NF σ z ∧ LK bs z (nxt bs s).1 ∧ nameOk (nxt bs s) = true ∧ ∃ cc, (eCh (pE s))[chI (pE s) (pW (nxt bs s))]? = some cc ∧ ¬ 0 ≤ cc.2.2 ∧ x = nI (chI (pE s) (pW (nxt bs s)))) ∨ (PF c σ0 z ∧ ∃ f, FL z f ∧ R = .error f), ?_, ?_⟩
    · rintro z7 x8 (⟨n7, L7, hk, cc, hcc, h0, hx8⟩ | ⟨n, f, g, e⟩)
      · have hlt : chI (pE s) (pW (nxt bs s)) < (eCh (pE s)).length := by
          rcases Nat.lt_or_ge (chI (pE s) (pW (nxt bs s))) (eCh (pE s)).length with z | z
          · exact z
          · rw [List.getElem?_eq_none z] at hcc; cases hcc
        have eT := pTree_3 hk hcc
        rw [if_neg h0] at eT
        generalize hi : chI (pE s) (pW (nxt bs s)) = i at *
        refine tn_nxt L7 (fun z9 n9 L9 _ => ⟨fun _ z11 hz11 z12 hz12 z13 hz13 z14 hz14 => ?_, fun z => absurd L9.le z⟩)
        have N9 := n7.tr n9
        have P14 : PF c σ0 z14 := by rw [hz14, hz13, hz12, hz11]; exact ((((hF.nf N9).ux (by omega)).ux (by omega)).ux (by omega)).ux (by omega)
        have T14 : TT c σ0 bs 0 i z14 ((nxt bs (nxt bs s)).1, pE s, []) := by
          refine ⟨⟨P14, ?_, ?_, ?_, hn⟩, ⟨⟨?_, Nat.zero_le _, fun j hj => (by cases hj)⟩, ⟨?_, Nat.zero_le _, fun j hj => (by cases hj)⟩⟩, ?_, ?_, by omega, by omega⟩
          · rw [hz14, hz13, hz12, hz11]; exact (((L9.ux (by omega)).ux (by omega)).ux (by omega)).ux (by omega)
          · rw [hz14, hz13, hz12, hz11]; exact ((((hR.nf N9).pux).pux).pux).pux
          · rw [hz14, sx_ux, if_neg (by omega), hz13, sx_ux, if_neg (by omega), hz12, sx_ux, if_neg (by omega), hz11, sx_ux, if_neg (by omega)]; exact (N9.1 31 (by omega)).trans h31
          · rw [hz14, sx_ux, if_neg (by omega), hz13, sx_ux, if_neg (by omega), hz12, sx_ux, if_neg (by omega), hz11, sx_ux, if_pos rfl]; rfl
          · rw [hz14, sx_ux, if_neg (by omega), hz13, sx_ux, if_neg (by omega), hz12, sx_ux, if_pos rfl]; rfl
          · rw [hz14, sx_ux, if_neg (by omega), hz13, sx_ux, if_pos rfl]
          · rw [hz14, sx_ux, if_pos rfl]; exact hx8
        have hcn : 3 * cnL ((nxt bs (nxt bs s)).1, pE s, []) ≤ pAt ((nxt bs (nxt bs s)).1, pE s, []) := by
          show 3 * cnL s ≤ pAt (nxt bs (nxt bs s))
          omega
        refine tt_node 9 (by omega) d_node (by decide) z14 _ _ T14 hcn (fun r z15 er1 T15 => ?_) (fun f z15 v er1 g => ?_)
        · rw [er1] at eT
          have h40 : ndL s ≤ 40 := hR.2.2.2.2.2.1.2.1
          obtain ⟨k1, k2, k3, k4, k5, k6, k7, k8⟩ := pN_ng 9 ((nxt bs (nxt bs s)).1, pE s, []) r n2.1 h40 er1
          have eR : R = pEnds (sEd r.2 (uCh (pE r.2) ((eCh (pE r.2)).set i (cc.1, cc.2.1, nI r.1)))) := by rw [← hRes, eT]; rfl
          have k8' : eCh (pE r.2) = eCh (pE s) := k8
          refine tn_lineEnds T15.lk (fun hS => ⟨fun z => absurd T15.lk.2.1 z, fun _ => ?_⟩) (fun z17 f n17 g ef => ⟨fun _ => bad z17 f (T15.pf.nf n17) g ?_, fun z => absurd z g.ne⟩)
          · rw [T15.1.2.2.2.1, hx8, nI_mul, nI_add, nI_clamp (by omega)]
            refine ⟨vp_inN (by omega) (by omega), fun z19 hz19 => hp z19 ?_⟩
            rw [eR, pEnds_ok hS]
            have hcc' : (eCh (pE r.2))[i]? = some cc := by rw [k8']; exact hcc
            have R19 := T15.1.2.2.1.setCh (v := nI r.1) hcc'
            refine ⟨?_, ?_, ?_, ?_, ?_⟩
            · rw [hz19]; exact T15.pf.uf (Or.inl ⟨by omega, by omega, by show _ / 6 = c; omega⟩)
            · rw [hz19]; exact T15.lk.uf (by omega)
            · rw [hz19]; exact R19
            · rw [hz19]; exact T15.1.2.2.2.1
            · refine ⟨fun x hx => ?_, T15.1.2.2.2.2.2⟩
              have hx' : x ∈ (eCh (pE r.2)).set i (cc.1, cc.2.1, nI r.1) := hx
              rcases List.mem_or_eq_of_mem_set hx' with y | y
              · exact T15.1.2.2.2.2.1 x y
              · rw [y]; exact hn.1 cc (List.mem_of_getElem? hcc)
          · rw [eR]
            exact pEnds_er ef _
        · rw [er1] at eT
          refine tb_lineEnds g.2 ⟨fun _ => bad z15 f g.1 g.2 ?_, fun z => absurd z g.2.ne⟩
          rw [← hRes, eT]; rfl
      · exact tb_next g ⟨fun z => absurd z g.nle, fun _ => bad z7 f n g e⟩
    · rcases J1 with ⟨n3, L3, hk, hx4⟩ | ⟨n, f, g, e⟩
      · have c3 : sx z3 31 = nI c := (n3.1 31 (by omega)).trans h31
        refine ⟨fun z => absurd L3.2.1 z, fun _ => ⟨fun z => z = z3 ∧ pTree bs s = er (nxt bs s) 3, ?_, ?_⟩⟩
        · rintro z23 ⟨rfl, eT⟩
          refine tn_wrong (α := PS) L3 (by omega) (fun z f n' g e => Or.inr ⟨hF.nf (n3.tr n'), f, g, ?_⟩)
          rw [← hRes, eT, e]
          rfl
        · by_cases hi : chI (pE s) (pW (nxt bs s)) < (eCh (pE s)).length
          · have hcc : (eCh (pE s))[chI (pE s) (pW (nxt bs s))]? = some (eCh (pE s))[chI (pE s) (pW (nxt bs s))] := List.getElem?_eq_getElem hi
            have hrow : sf z3 8 (6 * c + chI (pE s) (pW (nxt bs s))) = (eCh (pE s))[chI (pE s) (pW (nxt bs s))].2.2 := (n3.2.2 8 _).trans (hR.2.1.2.2 _ hi).2.2.2.2
            rw [hx4, if_pos hi, c3, nI_mul, nI_add, nI_clamp (by omega), hrow]
            refine ⟨fun z => absurd z (nI_pos (by omega)), fun _ => ⟨vp_inN (by omega) (by omega), fun z => Or.inl ⟨n3, L3, hk, _, hcc, Int32.not_le.mpr z, rfl⟩, fun z => ⟨rfl, ?_⟩⟩⟩
            rw [pTree_3 hk hcc, if_pos (Int32.not_lt.mp z)]
          · rw [hx4, if_neg hi]
            exact ⟨fun _ => ⟨rfl, pTree_2 hk hi⟩, fun z => absurd (by decide) z⟩
      · exact ⟨fun _ => Or.inr ⟨n, f, g, e⟩, fun z => absurd z g.ne⟩
  · refine tn_nxt hL (fun z29 n29 L29 _ => tn_name (α := PS) L29 (fun hk hnm => ⟨fun _ => ?_, fun z => absurd L29.le z⟩) (fun z30 f v n30 g hk e => ⟨fun z => absurd z g.nle, fun _ => Or.inr ⟨hF.nf (n29.tr n30), f, g, ?_⟩⟩))
    · refine tn_chapterOf (bs := bs) (hR.nf n29) ((n29.1 31 (by omega)).trans h31) hn.1 hnm ?_
      exact Or.inl ⟨n29, L29, hk, rfl⟩
    · rw [← hRes, pTree_1 hk, e]
      rfl
