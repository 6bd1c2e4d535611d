/-! The component: a stay as an edition sees it -/
set_option maxRecDepth 100000
theorem All2.mapL {α β γ : Type} {P : α → β → Prop} {xs : List γ} {ys : List β} {f : γ → α} (h : All2 (fun x y => P (f x) y) xs ys) : All2 P (xs.map f) ys := by
  refine ⟨by rw [List.length_map]; exact h.1, fun i h1 h2 => ?_⟩
  rw [List.length_map] at h1
  rw [List.getElem_map]
  exact h.2 i h1 h2
theorem EX.su {G : GP} {y y' : HS} {D Dl : LM} {e a : Nat} {E : Ed} {g : EG} {fs : List Value} (hE : EX G y D Dl e E g) (hv : V G y D) (h : SU y y' a) (ha : y.1 a = some (ob 2 fs)) : EX G y' D Dl e E g :=
  hE.kb (h.kb ha rfl) ((h.kc ha (by decide) _ _ hE.1.1).trans hE.1.1.symm) (h.kf hv ha (by decide))
/-- the leaf's object -/
def lkA (g : EG) (E : Ed) (s : St) : Option Nat := (lkN E s).map (fun p => gNa g p.1)
theorem sp_looks {G : GP} {y : HS} {D Dl : LM} {e a q l1 l2 : Nat} {E : Ed} {g : EG} {s : St} {v0 v1 : Value} {c0 t0 k0 w0 : Int32} {lf0 : Option Nat} {wy0 : Int64} {post : HS → Prop} (hsub : ∀ l xs, Dl l = some xs → D l = some xs) (hv : V G y D) (hE : EX G y D Dl e E g) (hst : stR G y D q l1 l2 s) (ha : y.1 a = some (ob 2 [v0, v1, .int c0, .int t0, .int k0, va_rf lf0, .int w0, .long wy0]))
    (hp : ∀ y', SU y y' a → y'.1 a = some (ob 2 [va_rf (some e), va_rf (some q), .int (lkC E s), .int (lkT E s), .int (lkL E s), va_rf (lkA g E s), .int (nI (aWays E s).length), .long (wv (aWays E s))]) → post y') : wp_X4_looks G post y a (some e) (some q) := by
  have hall : ∀ y' fs, SU y y' a → y'.1 a = some (ob 2 fs) → V G y' D ∧ EX G y' D Dl e E g ∧ stR G y' D q l1 l2 s := fun y' fs h h' => ⟨h.v hv ha h' (by decide), hE.su hv h ha, hst.kb (h.kb ha rfl) (h.kc ha (by decide)) rfl rfl⟩
  refine ⟨_, ha, by simp, fun y1 hy1 => ?_⟩
  have a1 : y1.1 a = some (ob 2 [va_rf (some e), v1, .int c0, .int t0, .int k0, va_rf lf0, .int w0, .long wy0]) := by rw [hy1, hput_at]; rfl
  have u1 : SU y y1 a := by rw [hy1]; exact SU.put
  refine ⟨_, a1, by simp, fun y3 hy3 => ?_⟩
  have a3 : y3.1 a = some (ob 2 [va_rf (some e), va_rf (some q), .int c0, .int t0, .int k0, va_rf lf0, .int w0, .long wy0]) := by rw [hy3, hput_at]; rfl
  have u3 : SU y y3 a := u1.tr (by rw [hy3]; exact SU.put)
  refine ⟨_, a3, by simp, fun y5 hy5 => ?_⟩
  have a5 : y5.1 a = some (ob 2 [va_rf (some e), va_rf (some q), .int c0, .int t0, .int k0, va_rf lf0, .int (nI 0), .long wy0]) := by rw [hy5, hput_at]; rfl
  have u5 : SU y y5 a := u3.tr (by rw [hy5]; exact SU.put)
  refine ⟨_, a5, by simp, fun y7 hy7 => ?_⟩
  have a7 : y7.1 a = some (ob 2 [va_rf (some e), va_rf (some q), .int c0, .int t0, .int k0, va_rf lf0, .int (nI 0), .long 0]) := by rw [hy7, hput_at]; rfl
  have u7 : SU y y7 a := u5.tr (by rw [hy7]; exact SU.put)
  obtain ⟨v7, E7, s7⟩ := hall y7 _ u7 a7
  obtain ⟨-, ⟨xr, r1, r2⟩, -⟩ := id E7.1
  refine ⟨⟨_, Or.inl a7⟩, sp_topOf v7 ⟨_, _, _, _, _, _, a7⟩ s7 E7.eL (hsub _ _ r1) r2 ⟨_, a7, by simp, fun y12 hy12 => ?_⟩⟩
  have a12 : y12.1 a = some (ob 2 [va_rf (some e), va_rf (some q), .int c0, .int (lkT E s), .int k0, va_rf lf0, .int (nI 0), .long 0]) := by rw [hy12, hput_at]; rfl
  have u12 : SU y y12 a := u7.tr (by rw [hy12]; exact SU.put)
  obtain ⟨v12, E12, s12⟩ := hall y12 _ u12 a12
  obtain ⟨-, -, ⟨xp, p1, p2⟩, -⟩ := id E12.1
  refine ⟨⟨_, Or.inl a12⟩, sp_levelOf v12 ⟨_, _, _, _, _, _, a12⟩ s12 E12.eL (hsub _ _ p1) (All2.imp p2 (fun _ _ z => z.sub hsub)) ⟨_, a12, by simp, fun y17 hy17 => ?_⟩⟩
  have a17 : y17.1 a = some (ob 2 [va_rf (some e), va_rf (some q), .int c0, .int (lkT E s), .int (lkL E s), va_rf lf0, .int (nI 0), .long 0]) := by rw [hy17, hput_at]; rfl
  have u17 : SU y y17 a := u12.tr (by rw [hy17]; exact SU.put)
  obtain ⟨v17, E17, s17⟩ := hall y17 _ u17 a17
  have hlc := hsub _ _ E17.2.2.1
  have hch : All2 (fun r (c : Ch) => chR y17 D r c.2.1) ((gXc g).map some) (eCh E) := All2.mapL (All2.imp E17.2.2.2.1 (fun q c z => by
    obtain ⟨q1, l, la, ll, nm, tr, w1, w2, w3⟩ := z.r
    exact ⟨q1, l, la, ll, nm, tr, w1, w2, w3.sub hsub⟩))
  refine ⟨⟨_, Or.inl a17⟩, sp_chapterOf v17 ⟨_, _, _, _, _, _, a17⟩ s17 E17.eL hlc hch ⟨_, a17, by simp, fun y22 hy22 => ?_⟩⟩
  have a22 : y22.1 a = some (ob 2 [va_rf (some e), va_rf (some q), .int (lkC E s), .int (lkT E s), .int (lkL E s), va_rf lf0, .int (nI 0), .long 0]) := by rw [hy22, hput_at]; rfl
  have u22 : SU y y22 a := u17.tr (by rw [hy22]; exact SU.put)
  obtain ⟨v22, E22, s22⟩ := hall y22 _ u22 a22
  have hok := E22.2.2.2.2.2.2.2.2.1
  obtain ⟨l16, l40, l400, l6⟩ := E22.2.2.2.2.2.2.2.2.2
  refine ⟨_, ⟨_, a22, rfl⟩, fun hge => ?_, fun hlt => ?_⟩
  · by_cases hc : (eCh E).findIdx (fun c => anyS c.2.1 (sMain s)) < (eCh E).length
    · have hxl : (gXc g).length = (eCh E).length := E22.2.2.2.1.1
      have hlk : lkC E s = nI ((eCh E).findIdx (fun c => anyS c.2.1 (sMain s))) := by rw [lkC, chapterFor, fst9, if_pos hc]
      obtain ⟨r, hr1, hr2⟩ := hok.2.2.1 _ (List.getElem_mem hc)
      have hN : lkN E s = some (gn (evA s (lkL E s) (lkT E s)) (eNd E) (eCn E) 40 r) := by
        rw [lkN, dif_pos hc, hr1, ix, nI_clamp (by omega)]
      generalize (eCh E).findIdx (fun c => anyS c.2.1 (sMain s)) = i at hc hlk hr1
      obtain ⟨l, la, ll, tr, nm, w1, w2, w3⟩ := E22.2.2.2.1.2 i (by omega) hc
      rw [hr1, ix, nI_clamp (by omega)] at w3
      obtain ⟨fc, hfc⟩ := v22.cell (hsub _ _ E22.2.2.1)
      refine ⟨e, rfl, _, ⟨_, E22.1.1, rfl⟩, _, ⟨_, a22, rfl⟩, _, rfl, ⟨fc, Or.inl hfc⟩, ?_⟩
      rw [hlk]
      refine v22.get (hsub _ _ E22.2.2.1) (i := i) (by rw [List.length_map]; omega) ?_
      rw [List.getElem_map]
      refine ⟨fun z hz => (by cases hz; exact ⟨_, Or.inl w1⟩), _, rfl, _, ⟨_, w1, rfl⟩, ⟨_, Or.inl a22⟩, ?_⟩
      refine sp_goes2 (c := lkC E s) (e := e) (q := q) (lf := lf0) hsub hok.1 l400 11 tr r _ 40 y22 [] _ (by decide) (by omega) w3 v22 E22.2.1 s22 hok.2.1 (by rw [a22]; rfl) (fun y' hSU hs' => ⟨_, hs', by simp, fun y38 hy38 => ?_⟩)
      refine hp y38 (u22.tr (hSU.tr (by rw [hy38]; exact SU.put))) ?_
      rw [hy38, hput_at, lkA, aWays, hN]
      rfl
    · rw [lkC, chapterFor, fst9, if_neg hc] at hge
      exact absurd hge (by decide)
  · have hN : lkN E s = none := by
      rw [lkN]
      by_cases hc : (eCh E).findIdx (fun c => anyS c.2.1 (sMain s)) < (eCh E).length
      · rw [lkC, chapterFor, fst9, if_pos hc] at hlt
        exact absurd (nI_pos' (by omega)) hlt
      · rw [dif_neg hc]
    refine ⟨_, a22, by simp, fun y40 hy40 => hp y40 (u22.tr (by rw [hy40]; exact SU.put)) ?_⟩
    rw [hy40, hput_at, lkA, aWays, hN]
    rfl
theorem EX.leaf {G : GP} {y : HS} {D Dl : LM} {e : Nat} {E : Ed} {g : EG} {s : St} {p : Nat × List Bool} (hE : EX G y D Dl e E g) (hN : lkN E s = some p) : ∃ x : Nd, (eNd E)[p.1]? = some x ∧ y.1 (gNa g p.1) = some (ob 11 [.int x.1, .int (bi (rch E p.1))]) ∧ lkK E s = x.1 ∧ (∃ j, j < (eCl E).length ∧ x.1 = nI j) ∧ p.1 < (eNd E).length := by
  obtain ⟨h1, h2, h3, h4, h5, h6, h7, h8, h9, l16, l40, l400, l6⟩ := hE
  obtain ⟨x, e1, e2, e3, -, e5⟩ := lk_some h9 l40 hN
  refine ⟨x, e1, h8 _ _ e1 e2, ?_, e3, e5⟩
  rw [lkK, hN]
  simp only [e1, Option.map_some, Option.getD_some]
theorem sp_cls {G : GP} {y : HS} {D Dl : LM} {e a : Nat} {E : Ed} {g : EG} {s : St} {v0 v1 v2 v3 v4 v6 v7 : Value} {post : Int32 → HS → Prop} (hE : EX G y D Dl e E g) (ha : y.1 a = some (ob 2 [v0, v1, v2, v3, v4, va_rf (lkA g E s), v6, v7])) (hp : post (lkK E s) y) : wp_X4_cls G post y a := by
  refine ⟨_, ⟨_, ha, rfl⟩, fun h => ?_, fun a3 h => ?_⟩
  · have hN : lkN E s = none := by
      cases e : lkN E s with
      | none => rfl
      | some p => rw [lkA, e] at h; cases h
    rw [lkK, hN] at hp
    exact hp
  · cases hN : lkN E s with
    | none => rw [lkA, hN] at h; cases h
    | some p =>
      obtain ⟨x, e1, e2, e3, -⟩ := hE.leaf hN
      have hA : lkA g E s = some (gNa g p.1) := by rw [lkA, hN]; rfl
      rw [e3] at hp
      exact ⟨_, ⟨_, ha, rfl⟩, _, hA, _, ⟨_, e2, rfl⟩, hp⟩
theorem sp_weight {G : GP} {y : HS} {D Dl : LM} {e a : Nat} {E : Ed} {g : EG} {s : St} {v1 v2 v3 v4 v6 v7 : Value} {post : Int32 → HS → Prop} (hE : EX G y D Dl e E g) (ha : y.1 a = some (ob 2 [va_rf (some e), v1, v2, v3, v4, va_rf (lkA g E s), v6, v7])) (hp : post (lkW E s) y) : wp_X4_weight G post y a := by
  refine ⟨_, ⟨_, ha, rfl⟩, fun h => ?_, fun a3 h => ?_⟩
  · have hN : lkN E s = none := by
      cases e : lkN E s with
      | none => rfl
      | some p => rw [lkA, e] at h; cases h
    have hK : lkK E s = -1 := by rw [lkK, hN]
    rw [lkW, hK, if_pos (by decide)] at hp
    exact hp
  · cases hN : lkN E s with
    | none => rw [lkA, hN] at h; cases h
    | some p =>
      have hl16 : (eCl E).length ≤ 16 := hE.2.2.2.2.2.2.2.2.2.1
      obtain ⟨x, e1, e2, e3, ⟨j, j1, j2⟩, -⟩ := hE.leaf hN
      have hA : lkA g E s = some (gNa g p.1) := by rw [lkA, hN]; rfl
      obtain ⟨c1, c2, c3, c4, gw, d1, d2⟩ := hE.1
      rw [lkW, e3, j2, if_neg (nI_pos (by omega)), ix, nI_clamp (by omega)] at hp
      simp only [List.getElem?_eq_getElem j1, Option.map_some, Option.getD_some] at hp
      refine ⟨_, ⟨_, ha, rfl⟩, e, rfl, _, ⟨_, c1, rfl⟩, _, ⟨_, ha, rfl⟩, _, hA, _, ⟨_, e2, rfl⟩, _, rfl, 16, gw, Or.inl d1, ?_, ?_⟩
      · rw [j2]; exact vp_inN (by omega) (by omega)
      · rw [j2, nI_clamp (by omega), d2 j j1]; exact hp
