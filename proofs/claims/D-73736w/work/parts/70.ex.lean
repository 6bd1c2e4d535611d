/-! The component: an edition in the heap -/
set_option maxRecDepth 100000
/-- lists of one kind alone (by a ghost label) -/
def De (O : Nat → Nat × Nat) (D : LM) : LM := fun l => if O l = (0, 0) then D l else none
theorem De.sub {O : Nat → Nat × Nat} {D : LM} {l : Nat} {xs : List (Option Nat)} (h : De O D l = some xs) : D l = some xs ∧ O l = (0, 0) := by
  unfold De at h
  by_cases e : O l = (0, 0)
  · rw [if_pos e] at h; exact ⟨h, e⟩
  · rw [if_neg e] at h; cases h
theorem De.at {O : Nat → Nat × Nat} {D : LM} {l : Nat} (h : O l = (0, 0)) : De O D l = D l := if_pos h
theorem De.up {O : Nat → Nat × Nat} {D : LM} {a : Nat} {v : Option (List (Option Nat))} (h : O a ≠ (0, 0)) : De O (va_up D a v) = De O D := by
  funext l
  unfold De va_up
  by_cases e : O l = (0, 0)
  · rw [if_pos e, if_pos e, if_neg (fun z => h (by rw [← z]; exact e))]
  · rw [if_neg e, if_neg e]
theorem spsR.sub {y : HS} {D D' : LM} {l : Nat} {sps : List Sp} (h : spsR y D l sps) (hd : ∀ l xs, D l = some xs → D' l = some xs) : spsR y D' l sps := by
  obtain ⟨xs, h1, h2⟩ := h
  exact ⟨xs, hd _ _ h1, h2⟩
theorem ptR.sub {y : HS} {D D' : LM} {r : Option Nat} {p : Pt9} (h : ptR y D r p) (hd : ∀ l xs, D l = some xs → D' l = some xs) : ptR y D' r p := by
  obtain ⟨q, s, l, h1, h2, h3, h4⟩ := h
  exact ⟨q, s, l, h1, h2, h3, h4.sub hd⟩
theorem ptR.kb {y y' : HS} {D : LM} {r : Option Nat} {p : Pt9} (h : ptR y D r p) (k : Kb y y') : ptR y' D r p := by
  obtain ⟨q, s, l, h1, h2, h3, h4⟩ := h
  exact ⟨q, s, l, h1, k _ _ h2 rfl, h3.kb k, h4.kb k rfl⟩
theorem CS.sub {G : GP} {y : HS} {D D' : LM} {cs : List Cn} {CR : Nat → Nat → Nat → Prop} {d r i : Nat} (h : CS G y D cs CR d r i) (hd : ∀ l xs, D l = some xs → D' l = some xs) : CS G y D' cs CR d r i := by
  rcases h with ⟨x, h1, h2⟩ | ⟨d', l, p, x, h0, h1, h2, h3⟩ | ⟨d', l, w, ps, p0, rest, h0, hw, h1, h2, h3⟩
  · exact Or.inl ⟨x, h1, h2⟩
  · exact Or.inr (Or.inl ⟨d', l, p, x, h0, h1, hd _ _ h2, h3⟩)
  · exact Or.inr (Or.inr ⟨d', l, w, ps, p0, rest, h0, hw, h1, hd _ _ h2, h3⟩)
/-- a chapter's object: its spans, the first node of its tree -/
def chX (y : HS) (D : LM) (NR : Nat → Nat → Nat → Prop) (q : Nat) (c : Ch) : Prop := ∃ (l la ll tr : Nat) (nm : Option Nat), y.1 q = some (ob 7 [va_rf nm, va_rf (some l), va_rf (some tr), va_rf (some la), va_rf (some ll)]) ∧ spsR y D l c.2.1 ∧ NR 11 tr (ix c.2.2)
/-- an array of chars -/
def chars (y : HS) (q : Nat) (bs : List Nat) : Prop := ∃ g, y.1 q = some (ai 4 bs.length g) ∧ ∀ j (h : j < bs.length), g j = nI bs[j]
/-- the ghosts of an edition: addresses of its nodes, relations of conditions and nodes; its lists and arrays (chapters, ranks, partners, leaves, chapterOf, names, weights); its chapters' objects -/
abbrev EG : Type := (Nat → Nat) × (Nat → Nat → Nat → Prop) × (Nat → Nat → Nat → Prop) × (Nat × Nat × Nat × Nat × Nat × Nat × Nat) × List Nat
abbrev gNa (g : EG) : Nat → Nat := g.1
abbrev gCR (g : EG) : Nat → Nat → Nat → Prop := g.2.1
abbrev gNR (g : EG) : Nat → Nat → Nat → Prop := g.2.2.1
abbrev gLs (g : EG) : Nat × Nat × Nat × Nat × Nat × Nat × Nat := g.2.2.2.1
abbrev gXc (g : EG) : List Nat := g.2.2.2.2
def chOf (E : Ed) (n : Nat) : Nat := (((eNd E)[n]?).map (fun x => x.2.2.2.2)).getD 0
/-- the edition's own cells -/
def exC (G : GP) (y : HS) (D : LM) (e : Nat) (E : Ed) (g : EG) : Prop :=
  y.1 e = some (ob 1 [va_rf (some (gLs g).1), va_rf (some (gLs g).2.1), va_rf (some (gLs g).2.2.1), va_rf (some (gLs g).2.2.2.1), va_rf (some (gLs g).2.2.2.2.1), va_rf (some (gLs g).2.2.2.2.2.1), va_rf (some (gLs g).2.2.2.2.2.2), .int (nI (eCl E).length), .int (nI (eNd E).length)]) ∧
  (∃ xs, D (gLs g).2.1 = some xs ∧ All2 (rkR y) xs (eRk E)) ∧ (∃ xs, D (gLs g).2.2.1 = some xs ∧ All2 (ptR y D) xs (ePt E)) ∧
  (∃ gn, y.1 (gLs g).2.2.2.2.2.1 = some (ar 7 16 gn) ∧ (∀ k (h : k < (eCl E).length), ∃ q, gn k = some q ∧ chars y q (eCl E)[k].1) ∧ ∀ k, (eCl E).length ≤ k → gn k = none) ∧
  ∃ gw, y.1 (gLs g).2.2.2.2.2.2 = some (ai 5 16 gw) ∧ ∀ k (h : k < (eCl E).length), gw k = (eCl E)[k].2
/-- conditions and nodes -/
def exT (G : GP) (y : HS) (D Dl : LM) (E : Ed) (g : EG) : Prop :=
  (∀ d r i, gCR g d r i → CS G y Dl (eCn E) (gCR g) d r i) ∧ (∀ d r n, gNR g d r n → NS y D (eNd E) (gCR g) (gNR g) d r n ∧ r = gNa g n ∧ n < (eNd E).length) ∧ ∀ m n, m < (eNd E).length → n < (eNd E).length → gNa g m = gNa g n → m = n
/-- a whole edition -/
def EX (G : GP) (y : HS) (D Dl : LM) (e : Nat) (E : Ed) (g : EG) : Prop :=
  exC G y Dl e E g ∧ exT G y D Dl E g ∧ Dl (gLs g).1 = some ((gXc g).map some) ∧ All2 (chX y Dl (gNR g)) (gXc g) (eCh E) ∧ (gXc g).Nodup ∧
  Dl (gLs g).2.2.2.1 = some ((lvs E).map (fun n => some (gNa g n))) ∧ Dl (gLs g).2.2.2.2.1 = some ((lvs E).map (fun n => some ((gXc g).getD (chOf E n) 0))) ∧
  (∀ n x, (eNd E)[n]? = some x → ¬ x.1 < 0 → y.1 (gNa g n) = some (ob 11 [.int x.1, .int (bi (rch E n))])) ∧ EdOk E ∧ (eCl E).length ≤ 16 ∧ (eNd E).length ≤ 40 ∧ (eCn E).length ≤ 400 ∧ (eCh E).length ≤ 6
theorem chars.kb {y y' : HS} {q : Nat} {bs : List Nat} (h : chars y q bs) (k : Kb y y') : chars y' q bs := by
  obtain ⟨g, h1, h2⟩ := h
  exact ⟨g, k _ _ h1 rfl, h2⟩
theorem chX.kb {y y' : HS} {D : LM} {NR : Nat → Nat → Nat → Prop} {q : Nat} {c : Ch} (h : chX y D NR q c) (k : Kb y y') : chX y' D NR q c := by
  obtain ⟨l, la, ll, tr, nm, h1, h2, h3⟩ := h
  exact ⟨l, la, ll, tr, nm, k _ _ h1 rfl, h2.kb k rfl, h3⟩
theorem exC.kb {G : GP} {y y' : HS} {D : LM} {e : Nat} {E : Ed} {g : EG} (h : exC G y D e E g) (k : Kb y y') (he : y'.1 e = y.1 e) : exC G y' D e E g := by
  obtain ⟨h1, ⟨xs, a1, a2⟩, ⟨ys, b1, b2⟩, ⟨gn, c1, c2, c3⟩, gw, d1, d2⟩ := h
  refine ⟨he.trans h1, ⟨xs, a1, All2.imp a2 (fun _ _ z => z.kb k)⟩, ⟨ys, b1, All2.imp b2 (fun _ _ z => z.kb k)⟩, ⟨gn, k _ _ c1 rfl, fun i hi => ?_, c3⟩, gw, k _ _ d1 rfl, d2⟩
  obtain ⟨q, z1, z2⟩ := c2 i hi
  exact ⟨q, z1, z2.kb k⟩
theorem exT.kb {G : GP} {y y' : HS} {D D' Dl : LM} {E : Ed} {g : EG} (h : exT G y D Dl E g) (k : Kb y y') (kf : KF y D y' D') : exT G y' D' Dl E g := by
  obtain ⟨h1, h2, h3⟩ := h
  exact ⟨fun d r i z => (h1 d r i z).kb k (fun l _ => rfl), fun d r n z => ⟨(h2 d r n z).1.kb k kf, (h2 d r n z).2⟩, h3⟩
theorem EX.kb {G : GP} {y y' : HS} {D D' Dl : LM} {e : Nat} {E : Ed} {g : EG} (h : EX G y D Dl e E g) (k : Kb y y') (he : y'.1 e = y.1 e) (kf : KF y D y' D') : EX G y' D' Dl e E g := by
  obtain ⟨h1, h2, h3, h4, h5, h6, h7, h8, h9⟩ := h
  exact ⟨h1.kb k he, h2.kb k kf, h3, All2.imp h4 (fun _ _ z => z.kb k), h5, h6, h7, fun n x z1 z2 => k _ _ (h8 n x z1 z2) rfl, h9⟩
theorem chX.r {y : HS} {D : LM} {NR : Nat → Nat → Nat → Prop} {q : Nat} {c : Ch} (h : chX y D NR q c) : chR y D (some q) c.2.1 := by
  obtain ⟨l, la, ll, tr, nm, h1, h2, h3⟩ := h
  exact ⟨q, l, la, ll, nm, some tr, rfl, h1, h2⟩
theorem EX.eL {G : GP} {y : HS} {D Dl : LM} {e : Nat} {E : Ed} {g : EG} (h : EX G y D Dl e E g) : eL y e (gLs g).1 (gLs g).2.1 (gLs g).2.2.1 (gLs g).2.2.2.1 (gLs g).2.2.2.2.1 := ⟨_, _, _, _, h.1.1⟩
/-- down a tree: the leaf's object, the answers -/
theorem sp_goes2 {G : GP} {D Dl : LM} {E : Ed} {g : EG} {a e q l1 l2 : Nat} {s : St} {c top level : Int32} {lf : Option Nat} (hsub : ∀ l xs, Dl l = some xs → D l = some xs) (ho : cOk2 (eCn E)) (hl : (eCn E).length ≤ 400) :
    ∀ (d r n m f : Nat) (y : HS) (bs : List Bool) (post : Option Nat → HS → Prop), d < m → (eNd E).length ≤ n + f + 1 → gNR g d r n → V G y D → exT G y D Dl E g → stR G y D q l1 l2 s → nOk E → y.1 a = some (ob 2 [va_rf (some e), va_rf (some q), .int c, .int top, .int level, va_rf lf, .int (nI bs.length), .long (wv bs)]) →
    (∀ (y' : HS), SU y y' a → y'.1 a = some (ob 2 [va_rf (some e), va_rf (some q), .int c, .int top, .int level, va_rf lf, .int (nI (bs ++ (gn (evA s level top) (eNd E) (eCn E) f n).2).length), .long (wv (bs ++ (gn (evA s level top) (eNd E) (eCn E) f n).2))]) → post (some (gNa g (gn (evA s level top) (eNd E) (eCn E) f n).1)) y') → wp_goes2 G m post y a (some r) := by
  intro d
  induction d with
  | zero =>
    intro r n m f y bs post hm hf hr hv hT hst hn hs hp
    cases m with
    | zero => exact absurd hm (Nat.not_lt_zero _)
    | succ m =>
      obtain ⟨h1, h2, h3⟩ := hT.2.1 0 r n hr
      rcases h1 with ⟨x, mt, e1, e2, e3⟩ | ⟨d', x, cr, arr, r1, r2, g9, e0, -⟩
      · refine ⟨true, Or.inr ⟨r, 11, _, rfl, Or.inl e3, by decide, Or.inl ⟨rfl, rfl⟩⟩, fun h => (by cases h), fun _ => ⟨fun z hz => (by cases hz; exact ⟨_, Or.inl e3⟩), ?_⟩⟩
        have := hp y (SU.rf y a)
        rw [gn_leaf e1 e2, List.append_nil] at this
        rw [h2]
        exact this hs
      · omega
  | succ d ih =>
    intro r n m f y bs post hm hf hr hv hT hst hn hs hp
    cases m with
    | zero => exact absurd hm (Nat.not_lt_zero _)
    | succ m =>
      obtain ⟨h1, h2, h3⟩ := hT.2.1 (d + 1) r n hr
      rcases h1 with ⟨x, mt, e1, e2, e3⟩ | ⟨d', x, cr, arr, r1, r2, g9, e0, e1, e2, e3, e4, e5, e6, e7, e8, e9⟩
      · refine ⟨true, Or.inr ⟨r, 11, _, rfl, Or.inl e3, by decide, Or.inl ⟨rfl, rfl⟩⟩, fun h => (by cases h), fun _ => ⟨fun z hz => (by cases hz; exact ⟨_, Or.inl e3⟩), ?_⟩⟩
        have := hp y (SU.rf y a)
        rw [gn_leaf e1 e2, List.append_nil] at this
        rw [h2]
        exact this hs
      · have hd' : d' = d := by omega
        subst hd'
        obtain ⟨u1, u2, u3, u4, u5⟩ := (hn n x e1).1 e2
        obtain ⟨f, rfl⟩ : ∃ f', f = f' + 1 := ⟨f - 1, by omega⟩
        refine ⟨false, Or.inr ⟨r, 14, _, rfl, Or.inl e3, by decide, Or.inr ⟨by decide, by decide, rfl⟩⟩, fun _ => ⟨fun y5 b6 r7 r8 => SU y y5 a ∧ b6 = !(vl (evA s level top) (eCn E) x.2.1) ∧ r7 = some arr ∧ r8 = some a ∧ y5.1 a = some (ob 2 [va_rf (some e), va_rf (some q), .int c, .int top, .int level, va_rf lf, .int (nI (bs ++ [vl (evA s level top) (eCn E) x.2.1]).length), .long (wv (bs ++ [vl (evA s level top) (eCn E) x.2.1]))]), ?_, fun z hz => (by cases hz; exact ⟨_, Or.inl e3⟩), r, rfl, _, ⟨_, e3, rfl⟩, ⟨_, Or.inl hs⟩, ?_⟩, fun h => (by cases h)⟩
        · rintro y5 b6 r7 r8 ⟨hSU, rfl, rfl, rfl, hs5⟩
          have hk := hSU.kb hs rfl
          have hkf := hSU.kf hv hs (by decide)
          have hv5 := hSU.v hv hs hs5 (by decide)
          have hT5 := hT.kb hk hkf
          have hst5 := hst.kb hk (hSU.kc hs (by decide)) rfl rfl
          have hFX := hkf _ _ _ e4
          refine ⟨arr, rfl, 2, g9, Or.inl hFX.1, ?_, a, rfl, ⟨_, Or.inl hs5⟩, ?_⟩
          · cases vl (evA s level top) (eCn E) x.2.1
            · exact vp_inN (i := 1) (by omega) (by omega)
            · exact vp_inN (i := 0) (by omega) (by omega)
          · cases hb : vl (evA s level top) (eCn E) x.2.1 with
            | true =>
              rw [hb] at hs5
              have hg : g9 (bi (!true)).toNatClampNeg = some r1 := e5
              rw [hg]
              refine ih r1 x.2.2.1 m f y5 (bs ++ [true]) _ (by omega) (by omega) e8 hv5 hT5 hst5 hn hs5 (fun y' hS2 hs' => ?_)
              have := hp y' (hSU.tr hS2)
              rw [gn_step e1 e2, hb] at this
              simp only [if_true] at this
              rw [List.append_assoc] at hs'
              exact this hs'
            | false =>
              rw [hb] at hs5
              have hg : g9 (bi (!false)).toNatClampNeg = some r2 := e6
              rw [hg]
              refine ih r2 x.2.2.2.1 m f y5 (bs ++ [false]) _ (by omega) (by omega) e9 hv5 hT5 hst5 hn hs5 (fun y' hS2 hs' => ?_)
              have := hp y' (hSU.tr hS2)
              rw [gn_step e1 e2, hb] at this
              simp only [Bool.false_eq_true, if_false] at this
              rw [List.append_assoc] at hs'
              exact this hs'
        · refine sp_is2 (CR := gCR g) hv hs hst (ho.ok hl) (fun d2 r2 i2 z => (hT.1 d2 r2 i2 z).sub hsub) 40 cr x.2.1 e7 _ _ (by decide) ⟨⟨_, Or.inl hs⟩, sp_answers hs (fun y' hSU hs' => ?_)⟩
          have hs2 : y'.1 a = some (ob 2 [va_rf (some e), va_rf (some q), .int c, .int top, .int level, va_rf lf, .int (nI (bs ++ [vl (evA s level top) (eCn E) x.2.1]).length), .long (wv (bs ++ [vl (evA s level top) (eCn E) x.2.1]))]) := by
            rw [hs', wv_snoc, List.length_append, List.length_singleton, nI_add]
          have e3' : y'.1 r = some (ob 14 [va_rf (some cr), va_rf (some arr)]) := hSU.kb hs rfl _ _ e3 rfl
          exact ⟨_, ⟨_, e3', rfl⟩, fun hb => ⟨hSU, by rw [hb]; rfl, rfl, rfl, hs2⟩, fun hb => ⟨hSU, by rw [hb]; rfl, rfl, rfl, hs2⟩⟩
