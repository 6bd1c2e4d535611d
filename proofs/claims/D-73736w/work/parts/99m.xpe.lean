/-! The component's parse: an edition under way -/
set_option maxRecDepth 100000
/-- labels of lists: 0 finished; 1 chapters 2 ranks 3 partners 4 leaves 5 chapterOf 6 + 2k, 7 + 2k atoms and leaves of the chapter k; 100 under way -/
def Df (K : Nat → Nat) (D : LM) : LM := fun l => if K l = 0 then D l else none
theorem Df.sub {K : Nat → Nat} {D : LM} {l : Nat} {xs : List (Option Nat)} (h : Df K D l = some xs) : D l = some xs ∧ K l = 0 := by
  unfold Df at h
  by_cases e : K l = 0
  · rw [if_pos e] at h; exact ⟨h, e⟩
  · rw [if_neg e] at h; cases h
theorem Df.at {K : Nat → Nat} {D : LM} {l : Nat} (h : K l = 0) : Df K D l = D l := if_pos h
def lb (K : Nat → Nat) (a v : Nat) : Nat → Nat := fun l => if l = a then v else K l
theorem lb_at (K : Nat → Nat) (a v : Nat) : lb K a v a = v := if_pos rfl
theorem lb_ne {K : Nat → Nat} {a v l : Nat} (h : l ≠ a) : lb K a v l = K l := if_neg h
theorem up_at (D : LM) (a : Nat) (v : Option (List (Option Nat))) : va_up D a v a = v := by simp [va_up]
theorem up_ne {D : LM} {a l : Nat} {v : Option (List (Option Nat))} (h : l ≠ a) : va_up D a v l = D l := by simp [va_up, h]
/-- labelled lists stay as they are, but for the label v -/
def KD (v : Nat) (D : LM) (K : Nat → Nat) (D' : LM) (K' : Nat → Nat) : Prop := ∀ l xs, D l = some xs → K l < 100 → K' l = K l ∧ (K l ≠ v → D' l = some xs)
theorem KD.rf (v : Nat) (D : LM) (K : Nat → Nat) : KD v D K D K := fun _ _ h _ => ⟨rfl, fun _ => h⟩
theorem KD.df {v : Nat} {D D' : LM} {K K' : Nat → Nat} (h : KD v D K D' K') (hv : v ≠ 0) : ∀ l xs, Df K D l = some xs → Df K' D' l = some xs := fun l xs hl => by
  obtain ⟨a1, a2⟩ := Df.sub hl
  obtain ⟨b2, b1⟩ := h l xs a1 (by omega)
  rw [Df.at (b2.trans a2)]
  exact b1 (by omega)
theorem KD.up {v : Nat} {D : LM} {K : Nat → Nat} {T : Nat} {w : Option (List (Option Nat))} (h : 100 ≤ K T) : KD v D K (va_up D T w) K := fun l xs hl hk => ⟨rfl, fun _ => by rw [up_ne (fun e => by rw [e] at hk; omega)]; exact hl⟩
theorem KD.new {v : Nat} {D : LM} {K : Nat → Nat} {T u : Nat} {w : Option (List (Option Nat))} (h : D T = none) : KD v D K (va_up D T w) (lb K T u) := fun l xs hl hk => by
  have : l ≠ T := fun e => by rw [e, h] at hl; cases hl
  rw [up_ne this, lb_ne this]
  exact ⟨rfl, fun _ => hl⟩
theorem KD.lab {v : Nat} {D : LM} {K : Nat → Nat} {L : Nat} {w : Option (List (Option Nat))} (h : K L = v) : KD v D K (va_up D L w) K := fun l xs hl hk => ⟨rfl, fun hne => by rw [up_ne (fun e => hne (by rw [e]; exact h))]; exact hl⟩
/-- a list that was under way gets another label -/
theorem KD.rel {v : Nat} {D : LM} {K : Nat → Nat} {T u : Nat} (h : 100 ≤ K T) : KD v D K D (lb K T u) := fun l xs hl hk => by
  have : l ≠ T := fun e => by rw [e] at hk; omega
  rw [lb_ne this]
  exact ⟨rfl, fun _ => hl⟩
theorem KD.tr {v : Nat} {D1 D2 D3 : LM} {K1 K2 K3 : Nat → Nat} (h : KD 1000 D1 K1 D2 K2) (k : KD v D2 K2 D3 K3) : KD v D1 K1 D3 K3 := fun l xs hl hk => by
  obtain ⟨a1, a2⟩ := h l xs hl hk
  obtain ⟨b1, b2⟩ := k l xs (a2 (by omega)) (by omega)
  exact ⟨b1.trans a1, fun hv => b2 (by omega)⟩
/-- the leaves of the chapter c -/
def lfs (E : Ed) (c : Nat) : List Nat := (List.range (eNd E).length).filter (fun n => match (eNd E)[n]? with
  | none => false
  | some x => !(decide (x.1 < 0)) && decide (x.2.2.2.2 = c))
theorem lvs_lfs (E : Ed) : lvs E = (List.range (eCh E).length).flatMap (lfs E) := rfl
/-- a String that holds w -/
def stW (G : GP) (y : HS) (q : Nat) (w : List Nat) : Prop := ∃ z h zz, y.1 q = some (ob 20 [va_rf z, .int 0, .int h, .int zz]) ∧ byR G y z w
theorem stW.pk2 {G : GP} {y y' : HS} {q : Nat} {w : List Nat} (h : stW G y q w) (k : PKw y y') (sw : SW y y') : stW G y' q w := by
  obtain ⟨z, h0, zz, h1, h2⟩ := h
  obtain ⟨h', zz', e⟩ := sw _ _ _ _ h1
  exact ⟨z, h', zz', e, h2.pk k⟩
theorem stW.pk {G : GP} {y y' : HS} {q : Nat} {w : List Nat} (h : stW G y q w) (k : PKs y y') : stW G y' q w := h.pk2 k.1 k.2.2
/-- chapters stay -/
def K7 (y y' : HS) : Prop := ∀ b v fs, y.1 b = some (ob 7 (v :: fs)) → v ≠ va_rf none → y'.1 b = some (ob 7 (v :: fs))
theorem PKs.k7 {y y' : HS} (h : PKs y y') : K7 y y' := fun b v fs hb hv => h.2.1 _ _ hb (Or.inr (Or.inl ⟨v, fs, rfl, hv⟩))
theorem K7.tr {y1 y2 y3 : HS} (h : K7 y1 y2) (k : K7 y2 y3) : K7 y1 y3 := fun b v fs hb hv => k b v fs (h b v fs hb hv) hv
/-- an atom whose word is no constant -/
def atH (G : GP) (y : HS) (q : Nat) (k : Cn) : Prop := ∃ (w z : Nat) (sp : Option Nat) (sg nb : Int32), y.1 q = some (ob 13 [va_rf (some w), va_rf sp, .int sg, .int nb, .int (nI k.2.2.2)]) ∧ y.1 w = some (ob 20 [va_rf (some z), .int 0, .int (whT.getD (wi k.1) 0), .int 0]) ∧ byR G y (some z) (wd (wi k.1)) ∧ 3 ≤ k.1 ∧ k.1 ≤ 9 ∧ (k.1 < 6 → spR y sp (k.2.1, k.2.2.1)) ∧ (6 ≤ k.1 → sp = none ∧ sg = (if k.2.1 = 0 then nI 60 else nI 62) ∧ nb = k.2.2.1 ∧ (k.2.1 = 0 ∨ k.2.1 = nI 1))
theorem atH.r {G : GP} {y : HS} {q : Nat} {k : Cn} (hG : GK G) (hw : WF G y) (h : atH G y q k) : atR G y q k := by
  obtain ⟨w, z, sp, sg, nb, h1, h2, h3, h4, h5, h6, h7⟩ := h
  refine ⟨w, sp, sg, nb, h1, ⟨some z, Or.inl h2, h3⟩, fun j hj e => ?_, h4, h5, h6, fun z6 => ⟨(h7 z6).1, (h7 z6).2.1, (h7 z6).2.2.1⟩⟩
  have a1 := (hw.1 _ _ h2).2
  have a2 := hG.1 j hj
  omega
theorem atH.pk {G : GP} {y y' : HS} {q : Nat} {x : Cn} (h : atH G y q x) (k : PKw y y') : atH G y' q x := by
  obtain ⟨w, z, sp, sg, nb, h1, h2, h3, h4, h5, h6, h7⟩ := h
  exact ⟨w, z, sp, sg, nb, k _ _ h1 (isB.kO (by decide) rf_ne), k _ _ h2 (isB.kS (whT_ne _ (wi_lt _))), h3.pk k, h4, h5, fun e => (h6 e).pk k, h7⟩
def atL (G : GP) (y : HS) (r : Option Nat) (x : Cn) : Prop := ∃ q, r = some q ∧ atH G y q x
/-- a chapter's object: its name, spans, atoms, leaves, tree -/
def chP (G : GP) (y : HS) (D : LM) (K : Nat → Nat) (g : EG) (gA : Nat → List Cn) (E : Ed) (k q : Nat) (c : Ch) : Prop :=
  ∃ (nm l la ll : Nat) (tr : Option Nat), y.1 q = some (ob 7 [va_rf (some nm), va_rf (some l), va_rf tr, va_rf (some la), va_rf (some ll)]) ∧ stW G y nm c.1 ∧ spsR y (Df K D) l c.2.1 ∧ K la = 6 + 2 * k ∧ K ll = 7 + 2 * k ∧ (∃ xs, D la = some xs ∧ All2 (atL G y) xs (gA k)) ∧ D ll = some ((lfs E k).map (fun n => some (gNa g n))) ∧ ((c.2.2 = -1 ∧ tr = none) ∨ ∃ t, tr = some t ∧ 0 ≤ c.2.2 ∧ gNR g 11 t (ix c.2.2))
/-- the edition's own cells; nn: its nodes as it counts them -/
def peC (y : HS) (D : LM) (K : Nat → Nat) (e : Nat) (E : Ed) (nn : Nat) (g : EG) : Prop :=
  y.1 e = some (ob 1 [va_rf (some (gLs g).1), va_rf (some (gLs g).2.1), va_rf (some (gLs g).2.2.1), va_rf (some (gLs g).2.2.2.1), va_rf (some (gLs g).2.2.2.2.1), va_rf (some (gLs g).2.2.2.2.2.1), va_rf (some (gLs g).2.2.2.2.2.2), .int (nI (eCl E).length), .int (nI nn)]) ∧
  (∃ xs, D (gLs g).2.1 = some xs ∧ All2 (rkR y) xs (eRk E)) ∧ (∃ xs, D (gLs g).2.2.1 = some xs ∧ All2 (ptR y (Df K D)) xs (ePt E)) ∧
  (∃ gn, y.1 (gLs g).2.2.2.2.2.1 = some (ar 7 16 gn) ∧ (∀ k (h : k < (eCl E).length), ∃ q, gn k = some q ∧ chars y q (eCl E)[k].1) ∧ ∀ k, (eCl E).length ≤ k → gn k = none) ∧
  (∃ gw, y.1 (gLs g).2.2.2.2.2.2 = some (ai 5 16 gw) ∧ ∀ k (h : k < (eCl E).length), gw k = (eCl E)[k].2) ∧ (eRk E).length ≤ 10 ∧ (ePt E).length ≤ 10 ∧ (eCl E).length ≤ 16
/-- conditions and nodes -/
def peT (G : GP) (y : HS) (D : LM) (K : Nat → Nat) (E : Ed) (g : EG) : Prop :=
  (∀ d r i, gCR g d r i → CS G y (Df K D) (eCn E) (gCR g) d r i) ∧ (∀ d d' r i, d ≤ d' → gCR g d r i → gCR g d' r i) ∧
  (∀ d r n, gNR g d r n → NS y D (eNd E) (gCR g) (gNR g) d r n ∧ r = gNa g n ∧ n < (eNd E).length) ∧ (∀ d d' r n, d ≤ d' → gNR g d r n → gNR g d' r n) ∧
  (∀ d d' r n n', gNR g d r n → gNR g d' r n' → n = n') ∧ ∀ d r n (x : Nd), gNR g d r n → (eNd E)[n]? = some x → ¬ x.1 < 0 → y.1 r = some (ob 11 [.int x.1, .int 0])
/-- the lists' labels -/
def peK (D : LM) (K : Nat → Nat) (g : EG) : Prop := K (gLs g).1 = 1 ∧ K (gLs g).2.1 = 2 ∧ K (gLs g).2.2.1 = 3 ∧ K (gLs g).2.2.2.1 = 4 ∧ K (gLs g).2.2.2.2.1 = 5 ∧ D (gLs g).2.2.2.1 = some [] ∧ D (gLs g).2.2.2.2.1 = some []
/-- the chapters -/
def peH (G : GP) (y : HS) (D : LM) (K : Nat → Nat) (g : EG) (gA : Nat → List Cn) (E : Ed) : Prop :=
  D (gLs g).1 = some ((gXc g).map some) ∧ (gXc g).Nodup ∧ (gXc g).length = (eCh E).length ∧ (eCh E).length ≤ 6 ∧ ∀ k (h : k < (eCh E).length) (h2 : k < (gXc g).length), chP G y D K g gA E k (gXc g)[k] (eCh E)[k]
def PE (G : GP) (y : HS) (D : LM) (K : Nat → Nat) (e : Nat) (E : Ed) (nn : Nat) (g : EG) (gA : Nat → List Cn) : Prop := peC y D K e E nn g ∧ peT G y D K E g ∧ peK D K g ∧ peH G y D K g gA E
theorem chP.st2 {G : GP} {y y' : HS} {v : Nat} {D D' : LM} {K K' : Nat → Nat} {g g' : EG} {gA gA' : Nat → List Cn} {E E' : Ed} {k q : Nat} {c : Ch} (hk6 : k < 6) (h : chP G y D K g gA E k q c) (kp : PKw y y') (k7 : K7 y y') (sw : SW y y') (kd : KD v D K D' K') (hv : v ≠ 0 ∧ v ≠ 6 + 2 * k ∧ v ≠ 7 + 2 * k) (hA : gA' k = gA k) (hL : (lfs E' k).map (fun n => some (gNa g' n)) = (lfs E k).map (fun n => some (gNa g n))) (hN : ∀ d r n, gNR g d r n → gNR g' d r n) : chP G y' D' K' g' gA' E' k q c := by
  obtain ⟨nm, l, la, ll, tr, h1, h2, h3, h4, h5, ⟨xs, h6, h7⟩, h8, h9⟩ := h
  obtain ⟨a1, a2⟩ := kd _ _ h6 (by omega)
  obtain ⟨b1, b2⟩ := kd _ _ h8 (by omega)
  refine ⟨nm, l, la, ll, tr, k7 _ _ _ h1 rf_ne, h2.pk2 kp sw, h3.pk kp (kd.df hv.1), a1.trans h4, b1.trans h5, ⟨xs, a2 (by omega), ?_⟩, ?_, ?_⟩
  · rw [hA]
    refine All2.imp h7 (fun r x z => ?_)
    obtain ⟨q2, z1, z2⟩ := z
    exact ⟨q2, z1, z2.pk kp⟩
  · rw [hL]; exact b2 (by omega)
  · rcases h9 with h9 | ⟨t, z1, z2, z3⟩
    · exact Or.inl h9
    · exact Or.inr ⟨t, z1, z2, hN _ _ _ z3⟩
theorem chP.st {G : GP} {y y' : HS} {v : Nat} {D D' : LM} {K K' : Nat → Nat} {g g' : EG} {gA gA' : Nat → List Cn} {E E' : Ed} {k q : Nat} {c : Ch} (hk6 : k < 6) (h : chP G y D K g gA E k q c) (kp : PKs y y') (kd : KD v D K D' K') (hv : v ≠ 0 ∧ v ≠ 6 + 2 * k ∧ v ≠ 7 + 2 * k) (hA : gA' k = gA k) (hL : (lfs E' k).map (fun n => some (gNa g' n)) = (lfs E k).map (fun n => some (gNa g n))) (hN : ∀ d r n, gNR g d r n → gNR g' d r n) : chP G y' D' K' g' gA' E' k q c := chP.st2 hk6 h kp.1 kp.k7 kp.2.2 kd hv hA hL hN
/-- the edition's own cells but for the lists of ranks and partners -/
theorem peC.st3 {y y' : HS} {v : Nat} {D D' : LM} {K K' : Nat → Nat} {e : Nat} {E : Ed} {nn : Nat} {g : EG} (hK : peK D K g) (h : peC y D K e E nn g) (kp : PKw y y') (kc : ∀ b x, y.1 b = some x → isC x → (∀ fs, x ≠ ob 11 fs) → y'.1 b = some x) (kd : KD v D K D' K') (hv : v ≠ 0 ∧ v ≠ 2 ∧ v ≠ 3) : peC y' D' K' e E nn g := by
  obtain ⟨h1, ⟨xs, a1, a2⟩, ⟨ys, b1, b2⟩, ⟨gn, c1, c2, c3⟩, ⟨gw, d1, d2⟩, d3⟩ := h
  refine ⟨kc _ _ h1 (Or.inl ⟨_, rfl⟩) (fun _ => ob_ne (by decide)), ⟨xs, (kd _ _ a1 (by rw [hK.2.1]; omega)).2 (by rw [hK.2.1]; omega), All2.imp a2 (fun _ _ z => z.pk kp)⟩, ⟨ys, (kd _ _ b1 (by rw [hK.2.2.1]; omega)).2 (by rw [hK.2.2.1]; omega), All2.imp b2 (fun _ _ z => z.pk kp (kd.df hv.1))⟩, ⟨gn, kc _ _ c1 (Or.inr (Or.inr (Or.inl ⟨_, _, rfl⟩))) (fun _ => ar_ne_ob), fun i hi => ?_, c3⟩, ⟨gw, kc _ _ d1 (Or.inr (Or.inr (Or.inr (Or.inl ⟨_, _, rfl⟩)))) (fun _ => ai_ne_ob), d2⟩, d3⟩
  obtain ⟨q, z1, z2⟩ := c2 i hi
  exact ⟨q, z1, z2.pk kp⟩
theorem peC.st {y y' : HS} {v : Nat} {D D' : LM} {K K' : Nat → Nat} {e : Nat} {E : Ed} {nn : Nat} {g : EG} (hK : peK D K g) (h : peC y D K e E nn g) (kp : PKs y y') (kd : KD v D K D' K') (hv : v ≠ 0 ∧ v ≠ 2 ∧ v ≠ 3) : peC y' D' K' e E nn g := peC.st3 hK h kp.1 (fun b x hb hx _ => kp.2.1 b x hb hx) kd hv
theorem peT.st {G : GP} {y y' : HS} {D D' : LM} {K K' : Nat → Nat} {E : Ed} {g : EG} (h : peT G y D K E g) (kp : PKw y y') (k11 : ∀ r fs, (∃ d n, gNR g d r n) → y.1 r = some (ob 11 fs) → y'.1 r = some (ob 11 fs)) (df : ∀ l xs, Df K D l = some xs → Df K' D' l = some xs) (kf : KF1 y D y' D') : peT G y' D' K' E g := by
  obtain ⟨h1, h2, h3, h4, h5, h6⟩ := h
  exact ⟨fun d r i z => (h1 d r i z).pk kp df (fun _ _ z => z) (fun _ _ _ z => z), h2, fun d r n z => ⟨(h3 d r n z).1.pk kp (fun fs => k11 r fs ⟨d, n, z⟩) kf (fun _ z => z) (fun _ _ _ z => z) (fun _ _ _ z => z), (h3 d r n z).2⟩, h4, h5, fun d r n x z z1 z2 => k11 _ _ ⟨d, n, z⟩ (h6 d r n x z z1 z2)⟩
theorem PKs.k11 {y y' : HS} (h : PKs y y') : ∀ r fs, y.1 r = some (ob 11 fs) → y'.1 r = some (ob 11 fs) := fun r fs hr => h.2.1 _ _ hr (Or.inr (Or.inr (Or.inr (Or.inr ⟨fs, rfl⟩))))
theorem peK.st {v : Nat} {D D' : LM} {K K' : Nat → Nat} {g : EG} {y : HS} {e : Nat} {E : Ed} {nn : Nat} (h : peK D K g) (hC : peC y D K e E nn g) {xs : List (Option Nat)} (hl : D (gLs g).1 = some xs) (kd : KD v D K D' K') (hv : v ≠ 4 ∧ v ≠ 5) : peK D' K' g := by
  obtain ⟨h1, h2, h3, h4, h5, h6, h7⟩ := h
  obtain ⟨-, ⟨ys, a1, -⟩, ⟨zs, b1, -⟩, -⟩ := hC
  obtain ⟨r1, -⟩ := kd _ _ hl (by omega)
  obtain ⟨r2, -⟩ := kd _ _ a1 (by omega)
  obtain ⟨r3, -⟩ := kd _ _ b1 (by omega)
  obtain ⟨r4, s4⟩ := kd _ _ h6 (by omega)
  obtain ⟨r5, s5⟩ := kd _ _ h7 (by omega)
  exact ⟨r1.trans h1, r2.trans h2, r3.trans h3, r4.trans h4, r5.trans h5, s4 (by omega), s5 (by omega)⟩
theorem PE.st {G : GP} {y y' : HS} {D D' : LM} {K K' : Nat → Nat} {e : Nat} {E : Ed} {nn : Nat} {g : EG} {gA : Nat → List Cn} (h : PE G y D K e E nn g gA) (kp : PKs y y') (kf : KF1 y D y' D') (kd : KD 1000 D K D' K') : PE G y' D' K' e E nn g gA := by
  obtain ⟨h1, h2, h3, h4, h5, h6, h7, h8⟩ := h
  exact ⟨peC.st h3 h1 kp kd (by decide), h2.st kp.1 (fun r fs _ => kp.k11 r fs) (kd.df (by decide)) kf, h3.st h1 h4 kd (by decide), (kd _ _ h4 (by rw [h3.1]; omega)).2 (by rw [h3.1]; omega), h5, h6, h7, fun k a b => chP.st (by omega) (h8 k a b) kp kd (by omega) rfl rfl (fun _ _ _ z => z)⟩
theorem PE.st3 {G : GP} {y y' : HS} {D D' : LM} {K K' : Nat → Nat} {e : Nat} {E : Ed} {nn : Nat} {g : EG} {gA : Nat → List Cn} (h : PE G y D K e E nn g gA) (kp : PKw y y') (kc : ∀ b x, y.1 b = some x → isC x → (∀ fs, x ≠ ob 11 fs) → y'.1 b = some x) (sw : SW y y') (k11 : ∀ r fs, (∃ d n, gNR g d r n) → y.1 r = some (ob 11 fs) → y'.1 r = some (ob 11 fs)) (kf : KF1 y D y' D') (kd : KD 1000 D K D' K') : PE G y' D' K' e E nn g gA := by
  obtain ⟨h1, h2, h3, h4, h5, h6, h7, h8⟩ := h
  exact ⟨peC.st3 h3 h1 kp kc kd (by decide), h2.st kp k11 (kd.df (by decide)) kf, h3.st h1 h4 kd (by decide), (kd _ _ h4 (by rw [h3.1]; omega)).2 (by rw [h3.1]; omega), h5, h6, h7, fun k a b => chP.st2 (by omega) (h8 k a b) kp (fun b v fs hb hv => kc _ _ hb (Or.inr (Or.inl ⟨v, fs, rfl, hv⟩)) (fun _ => ob_ne (by decide))) sw kd (by omega) rfl rfl (fun _ _ _ z => z)⟩
/-- cells that the Reader looks at -/
def isX (x : HE) : Prop := (∃ c fs, x = ob c fs ∧ (c = 0 ∨ c = 4 ∨ c = 5 ∨ c = 20 ∨ c = 21)) ∨ ∃ n g, x = ai 3 n g
theorem XP.mv {G : GP} {y0 : HS} {n0 : Nat} {y y' : HS} {R e X tp op ln : Nat} {ch : Option Nat} {bs : List Nat} {s s' : PS} (h : XP G y0 n0 y R e X tp op ln ch bs s) (hs : s'.1 = s.1) (hw : WF G y') (hk : ∀ b x, y.1 b = some x → isX x → y'.1 b = some x) (h1 : ∀ a, a < n0 → y'.1 a = y.1 a) (h2 : y.2 ≤ y'.2) : XP G y0 n0 y' R e X tp op ln ch bs s' := by
  obtain ⟨⟨w, t, a1, a2, a3, tok, a4, a5, a6⟩, b1, b2, b3, b4⟩ := h
  have kO : ∀ b c fs, y.1 b = some (ob c fs) → (c = 0 ∨ c = 4 ∨ c = 5 ∨ c = 20 ∨ c = 21) → y'.1 b = some (ob c fs) := fun b c fs hb hc => hk _ _ hb (Or.inl ⟨c, fs, rfl, hc⟩)
  have kA : ∀ b n g, y.1 b = some (ai 3 n g) → y'.1 b = some (ai 3 n g) := fun b n g hb => hk _ _ hb (Or.inr ⟨n, g, rfl⟩)
  unfold XP
  rw [hs]
  refine ⟨⟨hw, ?_, a1, a2, a3, tok, kO _ _ _ a4 (by decide), ?_, a6⟩, b1, b2.st h1, b3, by omega⟩
  · obtain ⟨⟨fs', z1⟩, ⟨g, z2, z3⟩, z4⟩ := t
    exact ⟨⟨fs', kO _ _ _ z1 (by decide)⟩, ⟨g, kA _ _ _ z2, z3⟩, z4⟩
  · rcases a5 with z | ⟨z0, q, z1, z2⟩ | ⟨z0, q, z, hh, zz, z1, z2, ⟨q2, g, c1, c2, c3⟩, z4⟩ | ⟨z0, q, z1, z2⟩ | z
    · exact Or.inl z
    · exact Or.inr (Or.inl ⟨z0, q, z1, kO _ _ _ z2 (by decide)⟩)
    · refine Or.inr (Or.inr (Or.inl ⟨z0, q, z, hh, zz, z1, kO _ _ _ z2 (by decide), ⟨q2, g, c1, ?_, c3⟩, z4⟩))
      rcases c2 with c2 | c2
      · exact Or.inl (kA _ _ _ c2)
      · exact Or.inr c2
    · refine Or.inr (Or.inr (Or.inr (Or.inl ⟨z0, q, z1, ?_⟩)))
      rcases z2 with z2 | z2
      · exact Or.inl (kO _ _ _ z2 (by decide))
      · exact Or.inr z2
    · exact Or.inr (Or.inr (Or.inr (Or.inr z)))
theorem XP.cell {G : GP} {y0 : HS} {n0 : Nat} {y : HS} {R e X tp op ln : Nat} {ch : Option Nat} {bs : List Nat} {s : PS} (h : XP G y0 n0 y R e X tp op ln ch bs s) : ∃ tok, y.1 R = some (ob 4 [.int (nI bs.length), va_rf (some e), .int (nI (pP s)), .int (nI (pAt s)), va_rf tok, .int (if pK s = 0 then 1 else 0), .int (nI op), .int (nI ln), va_rf ch, va_rf (some X)]) := by
  obtain ⟨⟨w, t, a1, a2, a3, tok, a4, a5, a6⟩, -⟩ := h
  exact ⟨tok, a4⟩
theorem XP.wf {G : GP} {y0 : HS} {n0 : Nat} {y : HS} {R e X tp op ln : Nat} {ch : Option Nat} {bs : List Nat} {s : PS} (h : XP G y0 n0 y R e X tp op ln ch bs s) : WF G y := h.1.1
/-- the whole state of a parse -/
def PX (G : GP) (y0 : HS) (n0 : Nat) (y : HS) (R e X tp op ln : Nat) (ch : Option Nat) (bs : List Nat) (s : PS) (nn : Nat) (D : LM) (K : Nat → Nat) (g : EG) (gA : Nat → List Cn) : Prop := XP G y0 n0 y R e X tp op ln ch bs s ∧ V2 G n0 y D ∧ PE G y D K e (pE s) nn g gA
/-- a quiet step -/
theorem PX.q {G : GP} {y0 : HS} {n0 : Nat} {y y' : HS} {R e X tp op ln op' ln' : Nat} {ch ch' : Option Nat} {bs : List Nat} {s s' : PS} {nn : Nat} {D : LM} {K : Nat → Nat} {g : EG} {gA : Nat → List Cn} (h : PX G y0 n0 y R e X tp op ln ch bs s nn D K g gA) (hx : XP G y0 n0 y' R e X tp op' ln' ch' bs s') (hs : pE s' = pE s) (hq : Qs y y') : PX G y0 n0 y' R e X tp op' ln' ch' bs s' nn D K g gA := by
  obtain ⟨h1, h2, h3⟩ := h
  refine ⟨hx, hq.v2 h2 hx.wf, ?_⟩
  rw [hs]
  exact h3.st hq.pks (hq.kf h2.1).one (KD.rf _ D K)
theorem px_nxt {G : GP} {y0 : HS} {n0 : Nat} {y : HS} {R e X tp op ln B : Nat} {ch : Option Nat} {bs : List Nat} {s : PS} {nn : Nat} {D : LM} {K : Nat → Nat} {g : EG} {gA : Nat → List Cn} {post : HS → Prop} (h : PX G y0 n0 y R e X tp op ln ch bs s nn D K g gA) (hB : cN bs (pP s) ≤ B) (hp : ∀ y', PX G y0 n0 y' R e X tp op ln ch bs (nxt bs s) nn D K g gA → Qs y y' → FrR y y' R → post y') : wp_X6_next G B post y R := by
  refine xp_nxt h.1 hB (fun y' hx hf => ?_)
  obtain ⟨t1, c1⟩ := h.1.cell
  obtain ⟨t2, c2⟩ := hx.cell
  have hq : Qs y y' := Qs.frr hf h.1.wf c1 c2
  exact hp y' (h.q hx rfl hq) hq hf
theorem XP.qfrr {G : GP} {y0 : HS} {n0 : Nat} {y y' : HS} {R e X tp op ln op' ln' : Nat} {ch ch' : Option Nat} {bs : List Nat} {s s' : PS} (h : XP G y0 n0 y R e X tp op ln ch bs s) (hx : XP G y0 n0 y' R e X tp op' ln' ch' bs s') (hf : FrR y y' R) : Qs y y' := by
  obtain ⟨t1, c1⟩ := h.cell
  obtain ⟨t2, c2⟩ := hx.cell
  exact Qs.frr hf h.wf c1 c2
/-- a list operation -/
theorem XP.kp {G : GP} {y0 : HS} {n0 : Nat} {y y' : HS} {R e X tp op ln : Nat} {ch : Option Nat} {bs : List Nat} {s s' : PS} (h : XP G y0 n0 y R e X tp op ln ch bs s) (hs : s'.1 = s.1) (hw : WF G y') (hk : Kp y y') (h1 : ∀ a, a < n0 → y'.1 a = y.1 a) (h2 : y.2 ≤ y'.2) : XP G y0 n0 y' R e X tp op ln ch bs s' := by
  refine h.mv hs hw (fun b x hb hx => hk b x hb ?_) h1 h2
  rcases hx with ⟨c, fs, rfl, hc⟩ | ⟨n, g, rfl⟩
  · show (c == 18) = false
    rw [beq_eq_false_iff_ne]
    omega
  · rfl
/-- an add to a list that is under way -/
theorem px_add {G : GP} {y0 : HS} {n0 : Nat} {y : HS} {R e X tp op ln B T : Nat} {ch : Option Nat} {bs : List Nat} {s : PS} {nn : Nat} {D : LM} {K : Nat → Nat} {g : EG} {gA : Nat → List Cn} {xs : List (Option Nat)} {r : Option Nat} {post : Bool → HS → Prop} (h : PX G y0 n0 y R e X tp op ln ch bs s nn D K g gA) (hT : D T = some xs) (hK : 100 ≤ K T) (hn : xs.length < 900) (hr : okO G y r) (hB : gco xs.length ≤ B) (hp : ∀ y', PX G y0 n0 y' R e X tp op ln ch bs s nn (va_up D T (some (xs ++ [r]))) K g gA → Kp y y' → Cls y y' → KF y D y' (va_up D T (some (xs ++ [r]))) → y.2 ≤ y'.2 → post true y') : wp_J2_add G B post y T r := by
  obtain ⟨h1, h2, h3⟩ := h
  refine h2.add h1.2.2.2.2 hT hn hr hB (fun y' v k c n f b => hp y' ⟨h1.kp rfl v.1.1 k b n, v, h3.st k.pks f.one (KD.up hK)⟩ k c f n)
/-- a new list -/
theorem px_list {G : GP} {y0 : HS} {n0 : Nat} {y : HS} {R e X tp op ln T : Nat} {ch : Option Nat} {bs : List Nat} {s : PS} {nn : Nat} {D : LM} {K : Nat → Nat} {g : EG} {gA : Nat → List Cn} {v0 v1 : Value} {post : HS → Prop} (h : PX G y0 n0 y R e X tp op ln ch bs s nn D K g gA) (hT : D T = none) (hn : n0 ≤ T) (ha : y.1 T = some (ob 18 [v0, v1, .int 0])) (hp : ∀ y', PX G y0 n0 y' R e X tp op ln ch bs s nn (va_up D T (some [])) (lb K T 100) g gA → (∀ b, b ≠ T → y'.1 b = y.1 b) → y'.2 = y.2 → KF y D y' (va_up D T (some [])) → post y') : wp_J2_init G post y T := by
  obtain ⟨h1, h2, h3⟩ := h
  refine h2.init hT hn ha (fun y' v b n k c f => hp y' ⟨h1.kp rfl v.1.1 k (fun a ha => b a (by omega)) (by omega), v, h3.st k.pks f.one (KD.new hT)⟩ b n f)
/-- a new object -/
theorem PX.nw {G : GP} {y0 : HS} {n0 : Nat} {y : HS} {R e X tp op ln : Nat} {ch : Option Nat} {bs : List Nat} {s : PS} {nn : Nat} {D : LM} {K : Nat → Nat} {g : EG} {gA : Nat → List Cn} {x : HE} (h : PX G y0 n0 y R e X tp op ln ch bs s nn D K g gA) : PX G y0 n0 (hnew y x) R e X tp op ln ch bs s nn D K g gA := by
  refine h.q (h.1.up h.1.wf.new (fun a ha => by rw [hnew_ne (by omega)]) (by rw [hnew_2]; omega)) rfl (Qs.new h.1.wf)
theorem PX.rdr {G : GP} {y0 : HS} {n0 : Nat} {y : HS} {R e X tp op ln : Nat} {ch : Option Nat} {bs : List Nat} {s : PS} {nn : Nat} {D : LM} {K : Nat → Nat} {g : EG} {gA : Nat → List Cn} (h : PX G y0 n0 y R e X tp op ln ch bs s nn D K g gA) : ∃ fs, rd G y R (ob 4 fs) := h.1.1.rd
