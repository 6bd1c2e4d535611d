/-! The component's reader: conditions of one atom -/
set_option maxRecDepth 100000
def nCR (g : EG) (dm q i : Nat) : Nat → Nat → Nat → Prop := fun d r j => gCR g d r j ∨ (dm ≤ d ∧ r = q ∧ j = i)
def gCn (g : EG) (C : Nat → Nat → Nat → Prop) : EG := (gNa g, C, gNR g, gLs g, gXc g)
theorem app_row {α : Type} {a b : List α} {j : Nat} {x : α} (h : a[j]? = some x) : (a ++ b)[j]? = some x := by
  rw [List.getElem?_append_left (List.getElem?_eq_some_iff.mp h).1]
  exact h
/-- new rows of conditions, and an object at q that stands for the row i -/
theorem PE.addR {G : GP} {y : HS} {D : LM} {K : Nat → Nat} {e : Nat} {E : Ed} {nn : Nat} {g : EG} {gA : Nat → List Cn} {l : List Cn} {q dm i : Nat} (h : PE G y D K e E nn g gA) (hq : ∀ d, dm ≤ d → CS G y (Df K D) (eCn E ++ l) (nCR g dm q i) d q i) : PE G y D K e (uCn E (eCn E ++ l)) nn (gCn g (nCR g dm q i)) gA := by
  obtain ⟨h1, ⟨t1, t2, t3, t4, t5, t6⟩, h3, h4, h5, h6, h7, h8⟩ := h
  refine ⟨h1, ⟨fun d r i z => ?_, fun d d' r i hd z => ?_, fun d r n z => ⟨(t3 d r n z).1.pk (PKw.rf y) (fun _ z => z) (KF.rf y D).one (fun _ z => z) (fun _ _ _ z => Or.inl z) (fun _ _ _ z => z), (t3 d r n z).2⟩, t4, t5, t6⟩, h3, h4, h5, h6, h7, fun k a b => ?_⟩
  · rcases z with z | ⟨z1, rfl, rfl⟩
    · exact (t1 d r i z).pk (PKw.rf y) (fun _ _ z => z) (fun _ _ z => app_row z) (fun _ _ _ z => Or.inl z)
    · exact hq d z1
  · rcases z with z | ⟨z1, rfl, rfl⟩
    · exact Or.inl (t2 d d' r i hd z)
    · exact Or.inr ⟨by omega, rfl, rfl⟩
  · obtain ⟨nm, l, la, ll, tr, c1, c2, c3, c4, c5, c6, c7, c8⟩ := h8 k a b
    exact ⟨nm, l, la, ll, tr, c1, c2, c3, c4, c5, c6, c7, c8⟩
theorem PE.rows {G : GP} {y : HS} {D : LM} {K : Nat → Nat} {e : Nat} {E : Ed} {nn : Nat} {g : EG} {gA : Nat → List Cn} (l : List Cn) (h : PE G y D K e E nn g gA) : PE G y D K e (uCn E (eCn E ++ l)) nn g gA := by
  obtain ⟨h1, ⟨t1, t2, t3, t4, t5, t6⟩, h3, h4, h5, h6, h7, h8⟩ := h
  refine ⟨h1, ⟨fun d r i z => (t1 d r i z).pk (PKw.rf y) (fun _ _ z => z) (fun _ _ z => app_row z) (fun _ _ _ z => z), t2, t3, t4, t5, t6⟩, h3, h4, h5, h6, h7, fun k a b => ?_⟩
  obtain ⟨nm, l, la, ll, tr, c1, c2, c3, c4, c5, c6, c7, c8⟩ := h8 k a b
  exact ⟨nm, l, la, ll, tr, c1, c2, c3, c4, c5, c6, c7, c8⟩
theorem uCn_id (E : Ed) : uCn E (eCn E ++ []) = E := by rw [List.append_nil]; rfl
/-- a new row of conditions, which the object at q stands for -/
theorem PE.addCn {G : GP} {y : HS} {D : LM} {K : Nat → Nat} {e : Nat} {E : Ed} {nn : Nat} {g : EG} {gA : Nat → List Cn} {k : Cn} {q dm : Nat} (h : PE G y D K e E nn g gA) (hq : ∀ d, dm ≤ d → CS G y (Df K D) (eCn E ++ [k]) (nCR g dm q (eCn E).length) d q (eCn E).length) : PE G y D K e (uCn E (eCn E ++ [k])) nn (gCn g (nCR g dm q (eCn E).length)) gA := h.addR hq
/-- an atom more in the chapter tc -/
theorem PE.addAt {G : GP} {y y' : HS} {D : LM} {K : Nat → Nat} {e : Nat} {E : Ed} {nn : Nat} {g : EG} {gA : Nat → List Cn} {k : Cn} {tc la a : Nat} {xs : List (Option Nat)} (h : PE G y D K e E nn g gA) (hK : K la = 6 + 2 * tc) (hl : D la = some xs) (hA : All2 (atL G y) xs (gA tc)) (ha : atH G y a k) (kp : Kp y y') (kf : KF y D y' (va_up D la (some (xs ++ [some a])))) (hcell : ∀ j (h : j < (eCh E).length) (h2 : j < (gXc g).length), j = tc → ∃ v0 v1 v2 v4, y.1 (gXc g)[j] = some (ob 7 [v0, v1, v2, va_rf (some la), v4])) : PE G y' (va_up D la (some (xs ++ [some a]))) K e E nn g (fun j => if j = tc then gA tc ++ [k] else gA j) := by
  obtain ⟨h1, h2, h3, h4, h5, h6, h7, h8⟩ := h
  have ks := kp.pks
  have kd : KD (6 + 2 * tc) D K (va_up D la (some (xs ++ [some a]))) K := KD.lab hK
  refine ⟨peC.st h3 h1 ks kd (by omega), h2.st ks.1 (fun r fs _ => ks.k11 r fs) (kd.df (by omega)) kf.one, h3.st h1 h4 kd (by omega), (kd _ _ h4 (by rw [h3.1]; omega)).2 (by rw [h3.1]; omega), h5, h6, h7, fun j a1 b1 => ?_⟩
  by_cases hj : j = tc
  · obtain ⟨v0, v1, v2, v4, cc⟩ := hcell j a1 b1 hj
    subst hj
    obtain ⟨nm, l, la2, ll, tr, c1, c2, c3, c4, c5, ⟨xs2, c6, c7⟩, c8, c9⟩ := h8 j a1 b1
    have e1 : la2 = la := by
      have := (ob_inj.mp (Option.some.inj (c1.symm.trans cc))).2
      injection this with _ this
      injection this with _ this
      injection this with _ this
      injection this with this _
      exact Option.some.inj (va_rf_inj.mp this)
    subst e1
    obtain ⟨b1', b2⟩ := kd _ _ c8 (by omega)
    refine ⟨nm, l, la2, ll, tr, ks.2.1 _ _ c1 (Or.inr (Or.inl ⟨_, _, rfl, rf_ne⟩)), c2.pk ks, c3.pk ks.1 (kd.df (by omega)), c4, c5, ⟨_, up_at _ _ _, ?_⟩, b2 (by omega), c9⟩
    show All2 (atL G y') (xs ++ [some a]) (if j = j then gA j ++ [k] else gA j)
    rw [if_pos rfl]
    refine All2.snoc (All2.imp hA (fun r x z => ?_)) ⟨a, rfl, ha.pk ks.1⟩
    obtain ⟨q2, z1, z2⟩ := z
    exact ⟨q2, z1, z2.pk ks.1⟩
  · exact chP.st (by omega) (h8 j a1 b1) ks kd (by omega) (if_neg hj) rfl (fun _ _ _ z => z)
/-- the state inside the tree of the chapter tc -/
def CX (G : GP) (y0 : HS) (n0 : Nat) (R e X tp ln : Nat) (bs : List Nat) (tc cq nn op : Nat) (y : HS) (s : PS) (D : LM) (K : Nat → Nat) (g : EG) (gA : Nat → List Cn) : Prop := PX G y0 n0 y R e X tp op ln (some cq) bs s nn D K g gA ∧ (gXc g)[tc]? = some cq ∧ tc < (eCh (pE s)).length ∧ gA tc = pA s ∧ AIx (pA s)
/-- what a condition leaves as it was -/
def CExt (tc : Nat) (y : HS) (D : LM) (K : Nat → Nat) (g : EG) (gA : Nat → List Cn) (y' : HS) (D' : LM) (K' : Nat → Nat) (g' : EG) (gA' : Nat → List Cn) : Prop := Bs y y' ∧ KF y D y' D' ∧ (∀ l xs, D l = some xs → 100 ≤ K l → D' l = some xs ∧ K' l = K l) ∧ (∀ d r i, gCR g d r i → gCR g' d r i) ∧ gNR g' = gNR g ∧ gNa g' = gNa g ∧ gLs g' = gLs g ∧ gXc g' = gXc g ∧ ∀ k, k ≠ tc → gA' k = gA k
theorem CExt.rf (tc : Nat) (y : HS) (D : LM) (K : Nat → Nat) (g : EG) (gA : Nat → List Cn) : CExt tc y D K g gA y D K g gA := ⟨Bs.rf y, KF.rf y D, fun _ _ h _ => ⟨h, rfl⟩, fun _ _ _ h => h, rfl, rfl, rfl, rfl, fun _ _ => rfl⟩
theorem CExt.tr {tc : Nat} {y1 y2 y3 : HS} {D1 D2 D3 : LM} {K1 K2 K3 : Nat → Nat} {g1 g2 g3 : EG} {A1 A2 A3 : Nat → List Cn} (h : CExt tc y1 D1 K1 g1 A1 y2 D2 K2 g2 A2) (k : CExt tc y2 D2 K2 g2 A2 y3 D3 K3 g3 A3) : CExt tc y1 D1 K1 g1 A1 y3 D3 K3 g3 A3 := by
  obtain ⟨a1, a2, a3, a4, a5, a6, a7, a8, a9⟩ := h
  obtain ⟨b1, b2, b3, b4, b5, b6, b7, b8, b9⟩ := k
  refine ⟨a1.tr b1, a2.tr b2, fun l xs hl hk => ?_, fun d r i z => b4 _ _ _ (a4 _ _ _ z), b5.trans a5, b6.trans a6, b7.trans a7, b8.trans a8, fun j hj => (b9 j hj).trans (a9 j hj)⟩
  obtain ⟨c1, c2⟩ := a3 l xs hl hk
  obtain ⟨d1, d2⟩ := b3 l xs c1 (by omega)
  exact ⟨d1, d2.trans c2⟩
theorem CExt.q {tc : Nat} {G : GP} {y1 y2 : HS} {D : LM} {K : Nat → Nat} {g : EG} {gA : Nat → List Cn} (h : Qs y1 y2) (hv : V G y1 D) : CExt tc y1 D K g gA y2 D K g gA := ⟨h.bs, h.kf hv, fun _ _ h _ => ⟨h, rfl⟩, fun _ _ _ h => h, rfl, rfl, rfl, rfl, fun _ _ => rfl⟩
theorem CX.q {G : GP} {y0 : HS} {n0 : Nat} {R e X tp ln : Nat} {bs : List Nat} {tc cq nn op op' : Nat} {y y' : HS} {s s' : PS} {D : LM} {K : Nat → Nat} {g : EG} {gA : Nat → List Cn} (h : CX G y0 n0 R e X tp ln bs tc cq nn op y s D K g gA) (hp : PX G y0 n0 y' R e X tp op' ln (some cq) bs s' nn D K g gA) (hs : s'.2 = s.2) : CX G y0 n0 R e X tp ln bs tc cq nn op' y' s' D K g gA := by
  obtain ⟨h1, h2, h3, h4, h5⟩ := h
  refine ⟨hp, h2, ?_, ?_, ?_⟩
  · show tc < (eCh s'.2.1).length; rw [hs]; exact h3
  · show gA tc = s'.2.2; rw [hs]; exact h4
  · show AIx s'.2.2; rw [hs]; exact h5
/-- the chapter under way -/
theorem CX.chap {G : GP} {y0 : HS} {n0 : Nat} {R e X tp ln : Nat} {bs : List Nat} {tc cq nn op : Nat} {y : HS} {s : PS} {D : LM} {K : Nat → Nat} {g : EG} {gA : Nat → List Cn} (h : CX G y0 n0 R e X tp ln bs tc cq nn op y s D K g gA) : ∃ tok nm l la ll tr xs, y.1 R = some (ob 4 [.int (nI bs.length), va_rf (some e), .int (nI (pP s)), .int (nI (pAt s)), va_rf tok, .int (if pK s = 0 then 1 else 0), .int (nI op), .int (nI ln), va_rf (some cq), va_rf (some X)]) ∧ y.1 cq = some (ob 7 [va_rf (some nm), va_rf (some l), va_rf tr, va_rf (some la), va_rf (some ll)]) ∧ K la = 6 + 2 * tc ∧ K ll = 7 + 2 * tc ∧ D la = some xs ∧ All2 (atL G y) xs (pA s) ∧ D ll = some ((lfs (pE s) tc).map (fun n => some (gNa g n))) := by
  obtain ⟨h1, h2, h3, h4, h5⟩ := h
  obtain ⟨tok, cR⟩ := h1.1.cell
  obtain ⟨-, -, -, -, -, xl, -, hc⟩ := h1.2.2
  have hx : tc < (gXc g).length := by rw [xl]; exact h3
  rw [List.getElem?_eq_getElem hx] at h2
  have e2 := Option.some.inj h2
  obtain ⟨nm, l, la, ll, tr, c1, c2, c3, c4, c5, ⟨xs, c6, c7⟩, c8, c9⟩ := hc tc h3 hx
  rw [e2] at c1
  rw [h4] at c7
  exact ⟨tok, nm, l, la, ll, tr, xs, cR, c1, c4, c5, c6, c7, c8⟩
theorem atF_split : ∀ A : List Cn, A.length = (atF 0 A).length + (atF 9 A).length := by
  intro A
  induction A with
  | nil => rfl
  | cons a t ih =>
    unfold atF at ih ⊢
    by_cases h : a.1 < 6
    · rw [List.filter_cons_of_pos (by rw [decide_eq_true h]; rfl), List.filter_cons_of_neg (by rw [decide_eq_true h]; decide), List.length_cons, List.length_cons]
      omega
    · rw [List.filter_cons_of_neg (by rw [decide_eq_false h]; decide), List.filter_cons_of_pos (by rw [decide_eq_false h]; rfl), List.length_cons, List.length_cons]
      omega
theorem px_manyOf {G : GP} {y0 : HS} {n0 : Nat} {R e X tp ln : Nat} {bs : List Nat} {tc cq nn op : Nat} {y : HS} {s : PS} {D : LM} {K : Nat → Nat} {g : EG} {gA : Nat → List Cn} {w : Nat} {b : Bool} {post : Int32 → HS → Prop} (h : CX G y0 n0 R e X tp ln bs tc cq nn op y s D K g gA) (hb : b = decide (w < 6)) (hp : post (nI (atF w (pA s)).length) y) : wp_X6_manyOf G post y R b := by
  obtain ⟨tok, nm, l, la, ll, tr, xs, cR, c1, -, -, c6, c7, -⟩ := h.chap
  have hv := h.1.2.1.1
  obtain ⟨fs, hfs⟩ := hv.cell c6
  have hl := hv.len c6
  have hlen := c7.1
  refine ⟨fun n y' x6 x7 => y' = y ∧ ∃ j, j ≤ xs.length ∧ n = xs.length - j ∧ x7 = nI j ∧ x6 = nI (atF w ((pA s).take j)).length, ⟨_, rfl, 0, Nat.zero_le _, rfl, rfl, rfl⟩, ?_⟩
  rintro n y' x6 x7 ⟨rfl, j, hj, rfl, rfl, rfl⟩
  refine ⟨_, ⟨_, cR, rfl⟩, cq, rfl, _, ⟨_, c1, rfl⟩, la, rfl, ⟨fs, Or.inl hfs⟩, hv.size c6 ⟨fun hge => ?_, fun hlt => ?_⟩⟩
  · have hkl := nle_of (by omega) hj hge
    rw [List.take_of_length_le (by omega)]
    exact hp
  · have hk2 := nlt_of (by omega) hj hlt
    obtain ⟨q, e1, e2⟩ := c7.2 j hk2 (by omega)
    have e3 := e2
    obtain ⟨w9, z9, sp9, sg9, nb9, d1, -⟩ := e3
    refine ⟨_, ⟨_, cR, rfl⟩, cq, rfl, _, ⟨_, c1, rfl⟩, la, rfl, ⟨fs, Or.inl hfs⟩, hv.get c6 hk2 ⟨fun a ha => ?_, q, e1, ⟨_, Or.inl d1⟩, sp_ofCodes e2 ?_⟩⟩
    · rw [e1] at ha; cases ha; exact ⟨_, Or.inl d1⟩
    · have ht : atF w ((pA s).take (j + 1)) = if decide ((pA s)[j].1 < 6) = decide (w < 6) then atF w ((pA s).take j) ++ [(pA s)[j]] else atF w ((pA s).take j) := by
        rw [take_snocA (show j < (pA s).length by omega)]
        exact atF_snoc w _ _
      refine ⟨fun hne x29 hx29 => ⟨xs.length - (j + 1), by omega, rfl, j + 1, by omega, rfl, by rw [nI_add], ?_⟩, fun he x31 hx31 => ⟨xs.length - (j + 1), by omega, rfl, j + 1, by omega, rfl, by rw [nI_add], ?_⟩⟩
      · rw [hx29, ht, if_neg (fun z => hne (by rw [hb, z])), nI_add, Nat.add_zero]
      · rw [hx31, ht, if_pos (by rw [← hb]; exact bi_inj he), List.length_append, List.length_singleton, nI_add]
theorem px_known {G : GP} {y0 : HS} {n0 : Nat} {R e X tp ln B : Nat} {bs : List Nat} {tc cq nn op pl a w : Nat} {x1 x2 : Int32} {y : HS} {s : PS} {D : LM} {K : Nat → Nat} {g : EG} {gA : Nat → List Cn} {post : Option Nat → HS → Prop} {xp : Nat → Nat → HS → Prop} (hG : GK G) (hw39 : 3 ≤ w ∧ w ≤ 9) (h : CX G y0 n0 R e X tp ln bs tc cq nn op y s D K g gA) (ha : atH G y a (w, x1, x2, (atF w (pA s)).length)) (hBo : ∀ v, pAtom pl w x1 x2 s = .ok v → 2 ≤ B) (hBe : ∀ f, pAtom pl w x1 x2 s = .error f → 1 ≤ B)
    (hp : ∀ y' q v D' K' g' gA', pAtom pl w x1 x2 s = .ok v → CX G y0 n0 R e X tp ln bs tc cq nn op y' v.2 D' K' g' gA' → CExt tc y D K g gA y' D' K' g' gA' → (∀ d, gCR g' d q v.1) → post (some q) y') (hx : ∀ f q y', pAtom pl w x1 x2 s = .error f → XF G R ln f n0 y0 6 q y' → xp 6 q y') : wp_X6_known G B post xp y R (some a) (nI pl) := by
  have h0 := h
  obtain ⟨tok, nm, l, la, ll, tr, xs, cR, c1, k1, -, c6, c7, -⟩ := h.chap
  have hv := h.1.2.1.1
  have hwf := h.1.1.wf
  obtain ⟨fs, hfs⟩ := hv.cell c6
  have hl := hv.len c6
  have hlen := c7.1
  obtain ⟨P, g2, g3, g4, hAI⟩ := h
  have ha0 := ha
  obtain ⟨aw, az, asp, asg, anb, d1, -⟩ := ha0
  refine ⟨fun n y' u x6 => y' = y ∧ u = 0 ∧ ∃ j, j ≤ xs.length ∧ n = xs.length - j ∧ x6 = nI j ∧ ∀ i (hi : i < (pA s).length), i < j → ¬ ((pA s)[i].1 = w ∧ (pA s)[i].2.1 = x1 ∧ (pA s)[i].2.2.1 = x2), ⟨_, rfl, rfl, 0, Nat.zero_le _, rfl, rfl, fun i _ z => absurd z (Nat.not_lt_zero _)⟩, ?_⟩
  rintro n y' u7 x6 ⟨rfl, rfl, j, hj, rfl, rfl, hno⟩
  refine ⟨Nat.zero_le _, _, ⟨_, cR, rfl⟩, cq, rfl, _, ⟨_, c1, rfl⟩, la, rfl, ⟨fs, Or.inl hfs⟩, hv.size c6 ⟨fun hge => ?_, fun hlt => ?_⟩⟩
  · have hkl := nle_of (by omega) hj hge
    have hnone := atI_none (w := w) (a := x1) (b := x2) (A := pA s) (fun i hi => hno i hi (by omega))
    have hl6 := hAI.1 w
    refine ⟨a, rfl, _, ⟨_, d1, rfl⟩, fun hne => ?_, fun he => ?_⟩
    · have h6 : (atF w (pA s)).length ≠ 6 := fun z => hne (by show nI (atF w (pA s)).length = nI 6; rw [z])
      have ev : pAtom pl w x1 x2 s = .ok (nwC (s.1, s.2.1, pA s ++ [(w, x1, x2, (atF w (pA s)).length)]) (w, x1, x2, (atF w (pA s)).length)) := by
        unfold pAtom
        rw [hnone, if_neg h6, if_pos rfl]
      have hB := hBo _ ev
      have hxs : xs.length ≤ 12 := by
        rw [hlen]
        have e1 := atF_split (pA s)
        have a1 := hAI.1 0
        have a2 := hAI.1 9
        omega
      have hg : gco xs.length ≤ B := by
        unfold gco
        split
        · omega
        · split
          · omega
          · omega
      refine ⟨_, ⟨_, cR, rfl⟩, cq, rfl, _, ⟨_, c1, rfl⟩, la, rfl, ⟨fs, Or.inl hfs⟩, B, by omega, P.2.1.add P.1.2.2.2.2 c6 (by omega) (fun z hz => by cases hz; exact ⟨13, _, by decide, Or.inl d1⟩) hg (fun y24 v24 k24 cl24 n24 kf24 b24 => ?_)⟩
      have ha24 := ha.pk k24.pks.1
      have pe1 := PE.addAt P.2.2 k1 c6 (by rw [g4]; exact c7) ha k24 kf24 (fun i hi hi2 hit => by
        subst hit
        rw [List.getElem?_eq_getElem hi2] at g2
        rw [Option.some.inj g2]
        exact ⟨_, _, _, _, c1⟩)
      have pe2 := PE.addCn (k := (w, x1, x2, (atF w (pA s)).length)) (q := a) (dm := 0) pe1 (fun d _ => Or.inl ⟨_, by rw [List.getElem?_append_right (Nat.le_refl _), Nat.sub_self]; rfl, ha24.r hG v24.1.1⟩)
      refine hp y24 a _ _ K _ _ ev ⟨⟨P.1.kp rfl v24.1.1 k24 b24 n24, v24, pe2⟩, g2, g3, ?_, AIx.atom hw39 hAI ev⟩ ⟨k24.bs cl24 n24, kf24, fun l' ys hl' hk' => ⟨?_, rfl⟩, fun _ _ _ z => Or.inl z, rfl, rfl, rfl, rfl, fun i hi => if_neg hi⟩ (fun d => Or.inr ⟨Nat.zero_le _, rfl, rfl⟩)
      · show (if tc = tc then gA tc ++ [_] else gA tc) = _
        rw [if_pos rfl, g4]
        rfl
      · rw [up_ne (fun ee => by rw [ee, k1] at hk'; have := h0.1.2.2.2.2.2.2.2.2.1; omega)]
        exact hl'
    · have h6 : (atF w (pA s)).length = 6 := (nI_eq (by omega) (by omega)).mp he
      have ev : pAtom pl w x1 x2 s = .error (8 * pl + 4) := by
        unfold pAtom
        rw [hnone, if_pos h6]
      have hB := hBe _ ev
      refine ⟨by omega, ?_⟩
      rintro a29 rfl y28 hy28
      have w28 : WF G y28 := by rw [hy28]; exact hwf.new
      have q28 : y28.1 y'.2 = some (ob 6 [va_rf none, va_rf none, va_rf none, va_rf none, va_rf none, .int 0, .int 0]) := by rw [hy28, hnew_at]
      refine xl_init6 w28 q28 (fun y2 a0 a1 a2 a3 a4 a5 w2 q2 f2 n2 => ⟨_, q2, by show 6 < 7; omega, fun y4 hy4 => ?_⟩)
      have q4 : y4.1 y'.2 = some (ob 6 [a0, a1, a2, a3, a4, a5, .int (nI (8 * pl + 4))]) := by rw [hy4, hput_at, nI_mul, nI_add]; rfl
      have lR := hwf.lt cR
      have fr : ∀ b, b < y'.2 → y4.1 b = y'.1 b := fun b hb => by rw [hy4, hput_ne (by omega), f2 b (by omega), hy28, hnew_ne (by omega)]
      refine ⟨_, q4, hx _ _ _ ev ⟨rfl, by rw [hy4]; exact w2.put q2, ⟨a0, a1, a2, a3, a4, a5, q4⟩, ⟨_, (fr R lR).trans cR, rfl, rfl⟩, P.1.2.2.1.st (fun b hb => fr b (by have := P.1.2.2.2.2; omega)), ?_⟩⟩
      have z1 := P.1.2.2.2.2
      rw [hy4, hput_2, n2, hy28, hnew_2]; omega
  · have hk2 := nlt_of (by omega) hj hlt
    obtain ⟨q, e1, e2⟩ := c7.2 j hk2 (by omega)
    have e3 := e2
    obtain ⟨w9, z9, sp9, sg9, nb9, d9, -⟩ := e3
    refine ⟨_, ⟨_, cR, rfl⟩, cq, rfl, _, ⟨_, c1, rfl⟩, la, rfl, ⟨fs, Or.inl hfs⟩, hv.get c6 hk2 ⟨fun a ha => ?_, q, e1, ⟨_, Or.inl d9⟩, sp_isLike hG hwf e2 ha ⟨fun hb => ⟨xs.length - (j + 1), by omega, rfl, rfl, j + 1, by omega, rfl, by rw [nI_add], fun i hi hij => ?_⟩, fun hb => ⟨_, ⟨_, cR, rfl⟩, cq, rfl, _, ⟨_, c1, rfl⟩, la, rfl, ⟨fs, Or.inl hfs⟩, hv.get c6 hk2 ⟨fun a ha => ?_, ?_⟩⟩⟩⟩⟩
    · rw [e1] at ha; cases ha; exact ⟨_, Or.inl d9⟩
    · by_cases hij2 : i = j
      · subst hij2; exact of_decide_eq_false hb
      · exact hno i hi (by omega)
    · rw [e1] at ha; cases ha; exact ⟨_, Or.inl d9⟩
    · obtain ⟨f1, f2, f3⟩ := atI_found hAI (show j < (pA s).length by omega) (of_decide_eq_true hb) (fun i hi hij => hno i hi hij)
      have ev : pAtom pl w x1 x2 s = .ok (nwC (s.1, s.2.1, pA s) (w, x1, x2, atI w x1 x2 (pA s))) := by
        unfold pAtom
        rw [if_neg f3, if_neg f2]
      rw [e1]
      rw [f1] at e2
      have pe2 := PE.addCn (k := (w, x1, x2, atI w x1 x2 (pA s))) (q := q) (dm := 0) P.2.2 (fun d _ => Or.inl ⟨_, by rw [List.getElem?_append_right (Nat.le_refl _), Nat.sub_self]; rfl, e2.r hG hwf⟩)
      refine hp y' q _ D K _ gA ev ⟨⟨P.1.kp rfl hwf (Kp.rf y') (fun _ _ => rfl) (Nat.le_refl _), P.2.1, pe2⟩, g2, g3, g4, hAI⟩ ⟨Bs.rf y', KF.rf y' D, fun _ _ z _ => ⟨z, rfl⟩, fun _ _ _ z => Or.inl z, rfl, rfl, rfl, rfl, fun _ _ => rfl⟩ (fun d => Or.inr ⟨Nat.zero_le _, rfl, rfl⟩)
theorem Bs.pu {y ya yb : HS} {a : Nat} (h : Bs y ya) (ha : y.1 a = none) (f : ∀ b, b ≠ a → yb.1 b = ya.1 b) (n : ya.2 ≤ yb.2) : Bs y yb := by
  obtain ⟨⟨h1, h2, h3⟩, h4, h5, h6⟩ := h
  have ne : ∀ b x, y.1 b = some x → b ≠ a := fun b x hb e => by rw [e, ha] at hb; cases hb
  refine ⟨⟨fun b x hb hx => (f b (ne b x hb)).trans (h1 b x hb hx), fun b x hb hx => (f b (ne b x hb)).trans (h2 b x hb hx), fun b z h0 zz hb => ?_⟩, fun b c fs l1 l2 hb => (f b (ne b _ hb)).trans (h4 b c fs l1 l2 hb), fun b c fs hb => ?_, Nat.le_trans h6 n⟩
  · obtain ⟨h', zz', e⟩ := h3 b z h0 zz hb
    exact ⟨h', zz', (f b (ne b _ hb)).trans e⟩
  · obtain ⟨fs', e⟩ := h5 b c fs hb
    exact ⟨fs', (f b (ne b _ hb)).trans e⟩
theorem WF.none {G : GP} {y : HS} {a : Nat} (h : WF G y) (ha : y.2 ≤ a) : y.1 a = Option.none := by
  cases e : y.1 a with
  | none => rfl
  | some x => have := h.lt e; omega
theorem xl_atom {G : GP} {y : HS} {q : Nat} {v0 v1 v2 v3 v4 : Value} {p1 p2 : Option Nat} {i3 i4 i5 : Int32} {post : HS → Prop} (hq : y.1 q = some (ob 13 [v0, v1, v2, v3, v4])) (hp : ∀ y', y'.1 q = some (ob 13 [va_rf p1, va_rf p2, .int i3, .int i4, .int i5]) → (∀ c, c ≠ q → y'.1 c = y.1 c) → y'.2 = y.2 → post y') : wp_X15_init G post y q p1 p2 i3 i4 i5 := by
  refine ⟨_, hq, by show 0 < 5; omega, fun y1 hy1 => ?_⟩
  have q1 : y1.1 q = some (ob 13 [va_rf p1, v1, v2, v3, v4]) := by rw [hy1, hput_at]; rfl
  refine ⟨_, q1, by show 1 < 5; omega, fun y3 hy3 => ?_⟩
  have q3 : y3.1 q = some (ob 13 [va_rf p1, va_rf p2, v2, v3, v4]) := by rw [hy3, hput_at]; rfl
  refine ⟨_, q3, by show 2 < 5; omega, fun y5 hy5 => ?_⟩
  have q5 : y5.1 q = some (ob 13 [va_rf p1, va_rf p2, .int i3, v3, v4]) := by rw [hy5, hput_at]; rfl
  refine ⟨_, q5, by show 3 < 5; omega, fun y7 hy7 => ?_⟩
  have q7 : y7.1 q = some (ob 13 [va_rf p1, va_rf p2, .int i3, .int i4, v4]) := by rw [hy7, hput_at]; rfl
  refine ⟨_, q7, by show 4 < 5; omega, fun y9 hy9 => hp y9 ?_ (fun c hc => ?_) ?_⟩
  · rw [hy9, hput_at]; rfl
  · rw [hy9, hput_ne hc, hy7, hput_ne hc, hy5, hput_ne hc, hy3, hput_ne hc, hy1, hput_ne hc]
  · rw [hy9, hy7, hy5, hy3, hy1]; rfl
