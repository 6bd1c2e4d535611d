/-! The model's parser: nodes and the tree's line -/
set_option maxRecDepth 100000
theorem RepT.setNd {σ : TS} {c n t a b e : Nat} {E : Ed} (h : RepT σ c E) (hn : (eNd E)[n]? = some (-1, 0, 0, 0, t)) : RepT (uf (uf (uf σ 21 (40 * c + n) (nI a)) 22 (40 * c + n) (nI b)) 23 (40 * c + n) (nI e)) c (uNd E ((eNd E).set n (-1, a, b, e, t))) := by
  obtain ⟨hd, a1, b1, c1, d1, ⟨e1, e2, e3⟩, f1⟩ := h
  have hlt : n < (eNd E).length := by
    rcases Nat.lt_or_ge n (eNd E).length with z | z
    · exact z
    · rw [List.getElem?_eq_none z] at hn; cases hn
  have sk : ∀ k i v, (k < 21 ∨ 23 < k) → sf (uf (uf (uf σ 21 (40 * c + n) (nI a)) 22 (40 * c + n) (nI b)) 23 (40 * c + n) v) k i = sf σ k i := by
    intro k i v hk
    rw [sf_uf, if_neg (by omega), sf_uf, if_neg (by omega), sf_uf, if_neg (by omega)]
  refine ⟨hd, ⟨?_, a1.2.1, fun k hk => ?_⟩, ⟨?_, b1.2⟩, ⟨?_, c1.2⟩, ⟨?_, d1.2⟩, ⟨?_, ?_, fun i hi => ?_⟩, ⟨?_, f1.2⟩⟩
  · rw [sk 3 _ _ (by omega)]; exact a1.1
  · exact a1.2.2 k hk
  · rw [sk 3 _ _ (by omega)]; exact b1.1
  · rw [sk 3 _ _ (by omega)]; exact c1.1
  · rw [sk 3 _ _ (by omega)]; exact d1.1
  · rw [sk 3 _ _ (by omega)]; show _ = nI ((eNd E).set n _).length; rw [List.length_set]; exact e1
  · show ((eNd E).set n _).length ≤ 40; rw [List.length_set]; exact e2
  · have hk' : i < ((eNd E).set n (-1, a, b, e, t)).length := hi
    show sf _ 20 _ = ((eNd E).set n (-1, a, b, e, t))[i].1 ∧ sf _ 24 _ = nI ((eNd E).set n (-1, a, b, e, t))[i].2.2.2.2 ∧ (((eNd E).set n (-1, a, b, e, t))[i].2.2.1 ≠ 0 → sf _ 21 _ = nI ((eNd E).set n (-1, a, b, e, t))[i].2.1 ∧ sf _ 22 _ = nI ((eNd E).set n (-1, a, b, e, t))[i].2.2.1 ∧ sf _ 23 _ = nI ((eNd E).set n (-1, a, b, e, t))[i].2.2.2.1)
    rw [List.length_set] at hk'
    rw [sk 20 _ _ (by omega), sk 24 _ _ (by omega)]
    by_cases ee : n = i
    · subst ee
      simp only [List.getElem_set_self]
      have h0 := e3 n hlt
      rw [List.getElem?_eq_getElem hlt] at hn
      rw [Option.some.inj hn] at h0
      refine ⟨h0.1, h0.2.1, fun w => ⟨?_, ?_, ?_⟩⟩
      · rw [sf_uf, if_neg (by omega), sf_uf, if_neg (by omega), sf_uf, if_pos ⟨rfl, rfl⟩]
      · rw [sf_uf, if_neg (by omega), sf_uf, if_pos ⟨rfl, rfl⟩]
      · rw [sf_uf, if_pos ⟨rfl, rfl⟩]
    · simp only [List.getElem_set_ne ee]
      obtain ⟨q1, q2, q3⟩ := e3 i hk'
      refine ⟨q1, q2, fun w => ⟨?_, ?_, ?_⟩⟩
      · rw [sf_uf, if_neg (by omega), sf_uf, if_neg (by omega), sf_uf, if_neg (by omega)]; exact (q3 w).1
      · rw [sf_uf, if_neg (by omega), sf_uf, if_neg (by omega), sf_uf, if_neg (by omega)]; exact (q3 w).2.1
      · rw [sf_uf, if_neg (by omega), sf_uf, if_neg (by omega), sf_uf, if_neg (by omega)]; exact (q3 w).2.2
  · rw [sk 3 _ _ (by omega)]; exact f1.1
theorem tb_node {c : Nat} {σ0 : TS} {rc : (Int32 → TS → Prop) → TS → Prop} : SBk c σ0 (wb_node rc) := by
  intro σ f post h hp
  exact ⟨fun z => absurd z h.2.nle, fun _ => hp _ σ h⟩
theorem jNd_set (s : PS) (v v' : Int32) (t : Nat) : (eNd (pE s) ++ [(v, 0, 0, 0, t)]).set (ndL s) (v', 0, 0, 0, t) = eNd (pE s) ++ [(v', 0, 0, 0, t)] := by
  rw [List.set_append_right _ _ (Nat.le_refl _), Nat.sub_self]
  rfl
theorem jNd_at (s : PS) (v : Int32) (t : Nat) : (eNd (pE (jNd s v t)))[ndL s]? = some (v, 0, 0, 0, t) := by
  show (eNd (pE s) ++ [(v, 0, 0, 0, t)])[ndL s]? = _
  rw [List.getElem?_append_right (Nat.le_refl _), Nat.sub_self]
  rfl
theorem pNodeB_if {bs : List Nat} {t : Nat} {s : PS} (k40 : isS s 40 = false) (k4 : isW s 4 = false) (k9 : isW s 9 = true) (hn : ¬ ndL s = 40) (r : (PS → Except Nat (Nat × PS)) × (PS → Except Nat (Nat × PS))) : pNodeB bs t (some r) s = bnd (r.1 (nxt bs (sEd s (uNd (pE s) (eNd (pE s) ++ [(-1, 0, 0, 0, t)]))))) (fun c => bnd (pMustW bs 16 c.2) (fun s2 => bnd (r.2 s2) (fun t' => bnd (pMustW bs 7 t'.2) (fun s3 => bnd (r.2 s3) (fun e =>
        .ok ((eNd (pE s)).length, sEd e.2 (uNd (pE e.2) ((eNd (pE e.2)).set (eNd (pE s)).length (-1, c.1, t'.1, e.1, t))))))))) := by
  unfold pNodeB
  rw [if_neg (by rw [k40]; decide), if_neg (by rw [k4]; decide), if_neg (by rw [k9]; decide), if_neg hn]
theorem pNodeB_none {bs : List Nat} {t : Nat} {s : PS} (k40 : isS s 40 = false) (k4 : isW s 4 = false) (k9 : isW s 9 = true) : pNodeB bs t none s = er s 4 := by
  unfold pNodeB
  rw [if_neg (by rw [k40]; decide), if_neg (by rw [k4]; decide), if_neg (by rw [k9]; decide)]
  split <;> rfl
theorem pNodeB_40 {bs : List Nat} {t : Nat} {s : PS} {rp : Option ((PS → Except Nat (Nat × PS)) × (PS → Except Nat (Nat × PS)))} (k40 : isS s 40 = false) (k4 : isW s 4 = false) (k9 : isW s 9 = true) (hn : ndL s = 40) : pNodeB bs t rp s = er s 4 := by
  unfold pNodeB
  rw [if_neg (by rw [k40]; decide), if_neg (by rw [k4]; decide), if_neg (by rw [k9]; decide), if_pos hn]
theorem tt_node1 {c : Nat} {σ0 : TS} {bs : List Nat} {o t : Nat} {rp : Option ((PS → Except Nat (Nat × PS)) × (PS → Except Nat (Nat × PS)))} {rc : (Int32 → TS → Prop) → TS → Prop} (ho : o = 9 → rp = none) (hr : o < 9 → ∃ r, rp = some r ∧ SPk c σ0 bs (o + 1) t r.1 (wp_c3 d_c3 0) ∧ SPk c σ0 bs (o + 1) t r.2 rc ∧ (∀ s q, tkB bs s.1 → r.1 s = .ok q → CG bs s q ∧ CE s q.2) ∧ ∀ s q, tkB bs s.1 → ndL s ≤ 40 → r.2 s = .ok q → NG bs s q) (B : SBk c σ0 rc) : SPk c σ0 bs o t (pNodeB bs t rp) (wb_node rc) := by
  intro σ s post h hb h1 h2
  have L := h.lk
  have htb := h.tb
  have hc3 := h.1.2.2.1.1
  have n1 := nxt_b htb
  refine ⟨fun _ => tn_isSign L (by omega) ⟨fun k40 => ?_, fun k40 => ?_⟩, fun z => absurd L.le z⟩
  · refine tn_isWord L (by omega) ⟨fun k4 => ?_, fun k4 => ?_⟩
    · refine tn_isWord L (by omega) ⟨fun k9 => ?_, fun k9 => ?_⟩
      · skip
        refine tt_newNode (α := Nat × PS) h (fun hlt z11 vj T11 => ?_) (fun h40 z11 f g e => ?_)
        · have p40 : ¬ ndL s = 40 := by omega
          refine tt_opens (α := Nat × PS) T11 (fun ho9 z13 T13 => ?_) (fun h9 z13 f g e => ⟨fun z => absurd z g.2.nle, fun _ => h2 f z13 _ ?_ g⟩)
          · obtain ⟨r, hrp, Sc, Sn, hgc, hgn⟩ := hr ho9
            subst hrp
            have eN := pNodeB_if (bs := bs) (t := t) k40 k4 k9 p40 r
            have hw9 := isW_p htb k9
            have l9 : (wd 9).length = 2 := by decide
            refine ⟨fun _ => ?_, fun z => absurd T13.lk.le z⟩
            intro x15 hx15
            have c13 : sx z13 31 = nI c := T13.1.2.2.2.1
            have ex15 : x15 = nI (40 * c + ndL s) := by rw [hx15, c13, nI_mul, nI_add]
            rw [ex15, nI_clamp (by omega)]
            refine ⟨vp_inN (by omega) (by omega), fun z16 hz16 => ?_⟩
            have dv : ∀ k, 20 ≤ k → k ≤ 24 → (40 * c + ndL s) / Wd k = c := by
              intro k u1 u2
              have : Wd k = 40 := by
                unfold Wd
                rw [if_neg (by omega), if_neg (by omega), if_neg (by omega), if_neg (by omega), if_neg (by omega), if_neg (by omega), if_pos (by omega)]
              rw [this]
              omega
            have T16 : TT c σ0 bs (o + 1) t z16 (nxt bs (jNd s (-1) t)) := by
              have R16 := T13.1.2.2.1.set20 (n := ndL s) (t := t) (v' := vj) (v := -1) (jNd_at s vj t)
              have e16 : uNd (pE (nxt bs (jNd s vj t))) ((eNd (pE (nxt bs (jNd s vj t)))).set (ndL s) (-1, 0, 0, 0, t)) = pE (jNd s (-1) t) := by
                show uNd (pE s) ((eNd (pE s) ++ [(vj, 0, 0, 0, t)]).set (ndL s) (-1, 0, 0, 0, t)) = _
                rw [jNd_set]
                rfl
              rw [e16] at R16
              rw [hz16]
              exact T13.edit (by omega) (by omega) (dv _ (by omega) (by omega)) R16 h.1.2.2.2.2
            have nb := nxt_b (s := jNd s (-1) t) htb
            have d8 : pAt s + 2 ≤ pAt (nxt bs (jNd s (-1) t)) := by
              have h3 : pP s ≤ pAt (nxt bs (jNd s (-1) t)) := nb.2
              omega
            have ecn : cnL (nxt bs (jNd s (-1) t)) = cnL s := rfl
            -- the end of a failed one
            have fin : ∀ f z23 r18 r21 r24, pNodeB bs t (some r) s = .error f → BD c σ0 z23 f → ∀ z25, z25 = ux z23 60 (sx z23 60 - nI 1) → vp_in (nI (40 * c + ndL s)) 120 ∧ ∀ z26, z26 = uf z25 21 (40 * c + ndL s) r18 → vp_in (nI (40 * c + ndL s)) 120 ∧ ∀ z27, z27 = uf z26 22 (40 * c + ndL s) r21 → vp_in (nI (40 * c + ndL s)) 120 ∧ ∀ z28, z28 = uf z27 23 (40 * c + ndL s) r24 → post (nI (ndL s)) z28 := by
              intro f z23 r18 r21 r24 ee g z25 hz25
              refine ⟨vp_inN (by omega) (by omega), fun z26 hz26 => ⟨vp_inN (by omega) (by omega), fun z27 hz27 => ⟨vp_inN (by omega) (by omega), fun z28 hz28 => h2 f z28 _ ee ?_⟩⟩⟩
              have gf : FL (ux z23 60 (sx z23 60 - nI 1)) f := g.2.ux (by omega)
              rw [hz28, hz27, hz26, hz25]
              exact ⟨(((g.1.ux (by omega)).uf (Or.inl ⟨by omega, by omega, dv _ (by omega) (by omega)⟩)).uf (Or.inl ⟨by omega, by omega, dv _ (by omega) (by omega)⟩)).uf (Or.inl ⟨by omega, by omega, dv _ (by omega) (by omega)⟩), gf⟩
            refine Sc z16 _ _ T16 (by omega) (fun vc z17 ec T17 => ?_) (fun f z17 v ec g => ?_)
            · obtain ⟨⟨u1, u2, u3, u4⟩, u5⟩ := hgc _ vc nb.1 ec
              have ec' : r.1 (nxt bs (sEd s (uNd (pE s) (eNd (pE s) ++ [(-1, 0, 0, 0, t)])))) = .ok vc := ec
              rw [ec'] at eN
              have eN2 : pNodeB bs t (some r) s = bnd (pMustW bs 16 vc.2) (fun s2 => bnd (r.2 s2) (fun t' => bnd (pMustW bs 7 t'.2) (fun s3 => bnd (r.2 s3) (fun e => .ok ((eNd (pE s)).length, sEd e.2 (uNd (pE e.2) ((eNd (pE e.2)).set (eNd (pE s)).length (-1, vc.1, t'.1, e.1, t)))))))) := eN
              refine tn_mustWord T17.lk (by omega) (fun z19 n19 o19 => ?_)
              cases hm : pMustW bs 16 vc.2 with
              | error f =>
                rw [hm] at o19 eN2
                have g : BD c σ0 z19 f := ⟨T17.pf.nf n19, o19⟩
                exact B z19 f _ g (fun v z20 g20 => tb_mustWord g20.2 (B z20 f _ g20 (fun v2 z23 g23 => fin f z23 _ _ _ eN2 g23)))
              | ok s2 =>
                rw [hm] at o19 eN2
                obtain ⟨v1, v2, v3, _, _⟩ := pMustW_ok u1 hm
                have T19 : TT c σ0 bs (o + 1) t z19 s2 := T17.nf n19 o19 v3
                have d1 : eNd (pE s2) = eNd (pE s) ++ [(-1, 0, 0, 0, t)] := by rw [e2E v3]; exact u5.nd.1
                have d2 : ndL s2 = ndL s + 1 := by show (eNd (pE s2)).length = _; rw [d1, List.length_append]; rfl
                have d6 : cnL s2 = cnL vc.2 := by show (eCn (pE s2)).length = _; rw [e2E v3]
                have eN3 : pNodeB bs t (some r) s = bnd (r.2 s2) (fun t' => bnd (pMustW bs 7 t'.2) (fun s3 => bnd (r.2 s3) (fun e => .ok ((eNd (pE s)).length, sEd e.2 (uNd (pE e.2) ((eNd (pE e.2)).set (eNd (pE s)).length (-1, vc.1, t'.1, e.1, t))))))) := eN2
                refine Sn z19 s2 _ T19 (by omega) (fun vt z20 et T20 => ?_) (fun f z20 v et g => ?_)
                · obtain ⟨w1, w2, w3, w4, w5, w6, w7, w8⟩ := hgn s2 vt v1 (by omega) et
                  rw [et] at eN3
                  have eN4 : pNodeB bs t (some r) s = bnd (pMustW bs 7 vt.2) (fun s3 => bnd (r.2 s3) (fun e => .ok ((eNd (pE s)).length, sEd e.2 (uNd (pE e.2) ((eNd (pE e.2)).set (eNd (pE s)).length (-1, vc.1, vt.1, e.1, t)))))) := eN3
                  refine tn_mustWord T20.lk (by omega) (fun z22 n22 o22 => ?_)
                  cases hm2 : pMustW bs 7 vt.2 with
                  | error f =>
                    rw [hm2] at o22 eN4
                    have g : BD c σ0 z22 f := ⟨T20.pf.nf n22, o22⟩
                    exact B z22 f _ g (fun v2 z23 g23 => fin f z23 _ _ _ eN4 g23)
                  | ok s3 =>
                    rw [hm2] at o22 eN4
                    obtain ⟨x1, x2, x3, _, _⟩ := pMustW_ok w1 hm2
                    have T22 : TT c σ0 bs (o + 1) t z22 s3 := T20.nf n22 o22 x3
                    have d3 : pE s3 = pE vt.2 := e2E x3
                    have d4 : ndL s3 = ndL vt.2 := by show (eNd (pE s3)).length = _; rw [d3]
                    have d5 : cnL s3 = cnL vt.2 := by show (eCn (pE s3)).length = _; rw [d3]
                    have eN5 : pNodeB bs t (some r) s = bnd (r.2 s3) (fun e => .ok ((eNd (pE s)).length, sEd e.2 (uNd (pE e.2) ((eNd (pE e.2)).set (eNd (pE s)).length (-1, vc.1, vt.1, e.1, t))))) := eN4
                    refine Sn z22 s3 _ T22 (by omega) (fun ve z23 ee T23 => ?_) (fun f z23 v ee g => ?_)
                    · obtain ⟨y1, y2, y3, y4, y5, y6, y7, y8⟩ := hgn s3 ve x1 (by omega) ee
                      rw [ee] at eN5
                      intro z25 hz25
                      have T25 : TT c σ0 bs o t z25 ve.2 := by rw [hz25]; exact T23.less
                      refine ⟨vp_inN (by omega) (by omega), fun z26 hz26 => ⟨vp_inN (by omega) (by omega), fun z27 hz27 => ⟨vp_inN (by omega) (by omega), fun z28 hz28 => h1 _ z28 eN5 ?_⟩⟩⟩
                      have hrow : (eNd (pE ve.2))[ndL s]? = some (-1, 0, 0, 0, t) := by
                        rw [y5 _ (by omega), d3, w5 _ (by omega), d1, List.getElem?_append_right (Nat.le_refl _), Nat.sub_self]
                        rfl
                      have R28 := T25.1.2.2.1.setNd (a := vc.1) (b := vt.1) (e := ve.1) hrow
                      obtain ⟨⟨a1, a2, a3, a4, a5⟩, ⟨b1, b2⟩, b3, b4, b5⟩ := T25
                      rw [hz28, hz27, hz26]
                      refine ⟨⟨((a1.uf (Or.inl ⟨by omega, by omega, dv _ (by omega) (by omega)⟩)).uf (Or.inl ⟨by omega, by omega, dv _ (by omega) (by omega)⟩)).uf (Or.inl ⟨by omega, by omega, dv _ (by omega) (by omega)⟩), ((a2.uf (by omega)).uf (by omega)).uf (by omega), R28, a4, a5⟩, ⟨((b1.wr (by omega) (by omega) (by omega)).wr (by omega) (by omega) (by omega)).wr (by omega) (by omega) (by omega), ((b2.wr (by omega) (by omega) (by omega)).wr (by omega) (by omega) (by omega)).wr (by omega) (by omega) (by omega)⟩, b3, b4, b5⟩
                    · rw [ee] at eN5
                      exact fin f z23 _ _ _ eN5 g
                · rw [et] at eN3
                  exact tb_mustWord g.2 (B z20 f _ g (fun v2 z23 g23 => fin f z23 _ _ _ eN3 g23))
            · have ec' : r.1 (nxt bs (sEd s (uNd (pE s) (eNd (pE s) ++ [(-1, 0, 0, 0, t)])))) = .error f := ec
              rw [ec'] at eN
              exact tb_mustWord g.2 (B z17 f _ g (fun v z20 g20 => tb_mustWord g20.2 (B z20 f _ g20 (fun v2 z23 g23 => fin f z23 _ _ _ eN g23))))
          · rw [ho h9, pNodeB_none k40 k4 k9]
            exact e
        · refine tb_opens g (fun z13 g13 => ⟨fun z => absurd z g13.2.nle, fun _ => h2 f z13 _ ?_ g13⟩)
          rw [pNodeB_40 k40 k4 k9 h40]
          exact e
      · refine tn_wrong (α := Nat × PS) L (by omega) (fun z f n g e => h2 f z _ ?_ ⟨h.pf.nf n, g⟩)
        unfold pNodeB
        rw [if_neg (by rw [k40]; decide), if_neg (by rw [k4]; decide), if_pos k9]
        exact e
    · have eN : pNodeB bs t rp s = pLeaf bs t s := by
        unfold pNodeB
        rw [if_neg (by rw [k40]; decide), if_pos k4]
      rw [eN] at h1 h2
      exact tt_leaf h (fun q z e T => h1 q z e T) (fun f z v e g => h2 f z v e g)
  · have hp1 := isS_p htb k40
    refine tt_opens (α := Nat × PS) h (fun ho9 z44 T44 => ?_) (fun h9 z44 f g e => ?_)
    · obtain ⟨r, hrp, Sc, Sn, hgc, hgn⟩ := hr ho9
      have eO : pNodeB bs t rp s = pClose bs (r.2 (nxt bs s)) := by
        unfold pNodeB
        rw [if_pos k40, hrp]
      rw [eO] at h1 h2
      have ecn : cnL (nxt bs s) = cnL s := rfl
      refine Sn z44 (nxt bs s) _ T44 (by omega) (fun v z45 ev T45 => ?_) (fun f z45 v ev g => ?_)
      · refine tn_mustSign T45.lk (by omega) (fun z47 n47 o47 => ?_)
        intro z48 hz48
        have eC : pClose bs (r.2 (nxt bs s)) = bnd (pMustS bs 41 v.2) (fun s => .ok (v.1, s)) := by
          unfold pClose
          rw [ev]; rfl
        rw [eC] at h1 h2
        cases hm : pMustS bs 41 v.2 with
        | error f =>
          rw [hm] at o47 h1 h2
          have g : FL z47 f := o47
          refine h2 f z48 _ rfl ?_
          rw [hz48]
          exact ⟨(T45.pf.nf n47).ux (by omega), g.ux (by omega)⟩
        | ok s' =>
          rw [hm] at o47 h1 h2
          refine h1 (v.1, s') z48 rfl ?_
          rw [hz48]
          exact (T45.nf n47 (s' := s') o47 (pMustS_2 hm)).less
      · refine tb_mustSign g.2 ?_
        intro z48 hz48
        refine h2 f z48 _ ?_ (by rw [hz48]; exact ⟨g.1.ux (by omega), g.2.ux (by omega)⟩)
        unfold pClose
        rw [ev]; rfl
    · have eO : pNodeB bs t rp s = er s 4 := by
        unfold pNodeB
        rw [if_pos k40, ho h9]
      refine B z44 f _ g (fun v z45 g45 => tb_mustSign g45.2 ?_)
      intro z48 hz48
      exact h2 f z48 _ (eO.trans e) (by rw [hz48]; exact ⟨g45.1.ux (by omega), g45.2.ux (by omega)⟩)
theorem tt_node {c : Nat} {σ0 : TS} {bs : List Nat} {t : Nat} : ∀ (d : Nat), d ≤ 9 → ∀ K, d + 2 ≤ K → SPk c σ0 bs (9 - d) t (pN bs t d) (wp_node K) := by
  intro d
  induction d with
  | zero =>
    intro hd K hK
    obtain ⟨K, rfl⟩ : ∃ j, K = j + 2 := ⟨K - 2, by omega⟩
    exact tt_node1 (rc := wp_node (K + 1)) (rp := none) (fun _ => rfl) (fun h => absurd h (by omega)) tb_node
  | succ d ih =>
    intro hd K hK
    obtain ⟨K, rfl⟩ : ∃ j, K = j + 2 := ⟨K - 2, by omega⟩
    have ih' := ih (by omega) (K + 1) (by omega)
    have ic := tt_cond (c := c) (σ0 := σ0) (bs := bs) (t := t) (d := d) (by omega)
    rw [show 9 - d = 9 - (d + 1) + 1 by omega] at ih' ic
    exact tt_node1 (rc := wp_node (K + 1)) (rp := some (pCondB bs (pO bs d), pN bs t d)) (fun h => absurd h (by omega)) (fun _ => ⟨(pCondB bs (pO bs d), pN bs t d), rfl, ic, ih', fun s q hb hq => ⟨pCondB_pg (pO_pg d) s q hb hq, pCondB_ce (pO_ce d) s q hq⟩, pN_ng d⟩) tb_node
