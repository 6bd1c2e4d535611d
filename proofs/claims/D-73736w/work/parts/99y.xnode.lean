/-! The component's reader: rows of nodes, and their objects -/
set_option maxRecDepth 100000
/-- steps inside a tree -/
def Ns (y y' : HS) : Prop := PKw y y' ∧ K7 y y' ∧ SW y y' ∧ KB y y' ∧ Cls y y' ∧ y.2 ≤ y'.2
theorem Ns.rf (y : HS) : Ns y y := ⟨PKw.rf y, fun _ _ _ h _ => h, fun _ _ h zz hb => ⟨h, zz, hb⟩, KB.rf y, Cls.rf y, Nat.le_refl _⟩
theorem Ns.tr {y1 y2 y3 : HS} (h : Ns y1 y2) (k : Ns y2 y3) : Ns y1 y3 := ⟨h.1.tr k.1, h.2.1.tr k.2.1, h.2.2.1.tr k.2.2.1, h.2.2.2.1.tr k.2.2.2.1, h.2.2.2.2.1.tr k.2.2.2.2.1, Nat.le_trans h.2.2.2.2.2 k.2.2.2.2.2⟩
theorem Bs.ns {y y' : HS} (h : Bs y y') : Ns y y' := ⟨h.1.1, h.1.k7, h.1.2.2, h.2.1, h.2.2.1, h.2.2.2⟩
theorem Ns.pu {y ya yb : HS} {a : Nat} (h : Ns y ya) (ha : y.1 a = none) (f : ∀ b, b ≠ a → yb.1 b = ya.1 b) (n : ya.2 ≤ yb.2) : Ns y yb := by
  obtain ⟨h1, h2, h3, h4, h5, h6⟩ := h
  have ne : ∀ b x, y.1 b = some x → b ≠ a := fun b x hb e => by rw [e, ha] at hb; cases hb
  refine ⟨fun b x hb hx => (f b (ne b x hb)).trans (h1 b x hb hx), fun b v fs hb hv => (f b (ne b _ hb)).trans (h2 b v fs hb hv), fun b z h0 zz hb => ?_, fun b c fs l1 l2 hb => (f b (ne b _ hb)).trans (h4 b c fs l1 l2 hb), fun b c fs hb => ?_, Nat.le_trans h6 n⟩
  · obtain ⟨h', zz', e⟩ := h3 b z h0 zz hb
    exact ⟨h', zz', (f b (ne b _ hb)).trans e⟩
  · obtain ⟨fs', e⟩ := h5 b c fs hb
    exact ⟨fs', (f b (ne b _ hb)).trans e⟩
theorem KF.pu {y ya yb : HS} {D D' : LM} {a : Nat} (h : KF y D ya D') (ha : y.1 a = none) (hd : D' a = none) (f : ∀ b, b ≠ a → yb.1 b = ya.1 b) : KF y D yb D' := fun q n g hx => by
  obtain ⟨h1, h2, h3⟩ := h q n g hx
  have hq : q ≠ a := fun e => by have := hx.1; rw [e, ha] at this; cases this
  refine ⟨(f q hq).trans h1, fun l xs hl fs hf => ?_, h3⟩
  have hl2 : l ≠ a := fun e => by rw [e, hd] at hl; cases hl
  rw [f l hl2] at hf
  exact h2 l xs hl fs hf
/-- an object of a leaf that stands for no node yet is written -/
theorem PX.pl {G : GP} {y0 : HS} {n0 : Nat} {y y' : HS} {R e X tp op ln q : Nat} {ch : Option Nat} {bs : List Nat} {s : PS} {nn : Nat} {D : LM} {K : Nat → Nat} {g : EG} {gA : Nat → List Cn} {fs fs' : List Value} (h : PX G y0 n0 y R e X tp op ln ch bs s nn D K g gA) (hq : y.1 q = some (ob 11 fs)) (hn : n0 ≤ q) (hno : ∀ d n, ¬ gNR g d q n) (h1 : ∀ a, a ≠ q → y'.1 a = y.1 a) (hq' : y'.1 q = some (ob 11 fs')) (h2 : y'.2 = y.2) : PX G y0 n0 y' R e X tp op ln ch bs s nn D K g gA := by
  obtain ⟨a1, a2, a3⟩ := h
  have hw := a1.wf
  have hne : ∀ b x, y.1 b = some x → (∀ fs, x ≠ ob 11 fs) → y'.1 b = some x := fun b x hb hx => by
    rw [h1 b (fun e => by rw [e, hq] at hb; exact hx _ (Option.some.inj hb).symm)]
    exact hb
  have w' : WF G y' := by
    refine ⟨fun b x hb => ?_, hw.2.1, by rw [h2]; exact hw.2.2⟩
    by_cases e : b = q
    · subst e; rw [h2]; exact hw.1 _ _ hq
    · rw [h1 b e] at hb; rw [h2]; exact hw.1 _ _ hb
  have hls : ∀ b e, y.1 b = some e → isLs e = true → y'.1 b = some e := fun b x hb hx => hne b x hb (fun gs z => by
    subst z; cases hx)
  have hcl : Cls y y' := fun b c' gs hb => by
    by_cases e : b = q
    · subst e
      rw [hq] at hb
      obtain ⟨rfl, rfl⟩ := ob_inj.mp (Option.some.inj hb)
      exact ⟨_, hq'⟩
    · exact ⟨gs, by rw [h1 b e]; exact hb⟩
  have hkf : KF y D y' D := KF.step hls (fun a xs hd => a2.1.cell hd)
  refine ⟨a1.mv rfl w' (fun b x hb hx => hne b x hb (fun gs z => ?_)) (fun a ha => h1 a (by omega)) (by omega), a2.step w' hls hcl, a3.st3 (fun b x hb hx => hne b x hb (fun gs z => ?_)) (fun b x hb _ hx => hne b x hb hx) (fun b z h0 zz hb => ⟨h0, zz, hne b _ hb (fun _ => ob_ne (by decide))⟩) (fun r fs hr hb => ?_) hkf.one (KD.rf _ D K)⟩
  · subst z
    rcases hx with ⟨c', gs', z1, z2⟩ | ⟨n, g', z1⟩
    · obtain ⟨rfl, -⟩ := ob_inj.mp z1
      omega
    · exact ob_ne_ai z1
  · subst z
    rcases hx with ⟨c', v, gs', z1, -, -, z2, -⟩ | ⟨u1, u2, u3, u4, z1, -⟩ | ⟨t, n, g', z1, -⟩
    · exact z2 (ob_inj.mp z1).1.symm
    · exact absurd (ob_inj.mp z1).1 (by decide)
    · exact ob_ne_ai z1
  · obtain ⟨d, n, hr⟩ := hr
    rw [h1 r (fun e => by rw [e] at hr; exact hno d n hr)]
    exact hb
/-- a node more, as the edition counts them -/
theorem px_inc {G : GP} {y0 : HS} {n0 : Nat} {y : HS} {R e X tp op ln : Nat} {ch : Option Nat} {bs : List Nat} {s : PS} {nn : Nat} {D : LM} {K : Nat → Nat} {g : EG} {gA : Nat → List Cn} {post : HS → Prop} (h : PX G y0 n0 y R e X tp op ln ch bs s nn D K g gA) (he : n0 ≤ e) (hp : ∀ y', PX G y0 n0 y' R e X tp op ln ch bs s (nn + 1) D K g gA → Ns y y' → KF y D y' D → post y') : ∃ f93, fI y e 1 8 f93 ∧ ∃ fs95, y.1 e = some (ob 1 fs95) ∧ 8 < fs95.length ∧ ∀ y94, y94 = hput y e (ob 1 (fs95.set 8 (.int (f93 + (nI 1))))) → post y94 := by
  obtain ⟨a1, a2, a3⟩ := h
  obtain ⟨⟨c1, c2, c3, ⟨gn, d1, d2, d3⟩, ⟨gw, f1, f2⟩, c5⟩, pT, pK, p4, p5, p6, p7, p8⟩ := id a3
  refine ⟨_, ⟨_, c1, rfl⟩, _, c1, by show 8 < 9; omega, fun y' hy' => ?_⟩
  have e' : y'.1 e = some (ob 1 [va_rf (some (gLs g).1), va_rf (some (gLs g).2.1), va_rf (some (gLs g).2.2.1), va_rf (some (gLs g).2.2.2.1), va_rf (some (gLs g).2.2.2.2.1), va_rf (some (gLs g).2.2.2.2.2.1), va_rf (some (gLs g).2.2.2.2.2.2), .int (nI (eCl (pE s)).length), .int (nI (nn + 1))]) := by rw [hy', hput_at, ← nI_add]; rfl
  have h1 : ∀ b, b ≠ e → y'.1 b = y.1 b := fun b hb => by rw [hy', hput_ne hb]
  have hw := a1.wf
  have w' : WF G y' := by rw [hy']; exact hw.put c1
  have z' : y'.2 = y.2 := by rw [hy']; rfl
  have hne : ∀ b x, y.1 b = some x → (∀ fs, x ≠ ob 1 fs) → y'.1 b = some x := fun b x hb hx => by
    rw [h1 b (fun ee => by rw [ee, c1] at hb; exact hx _ (Option.some.inj hb).symm)]
    exact hb
  have hls : ∀ b e, y.1 b = some e → isLs e = true → y'.1 b = some e := fun b x hb hx => hne b x hb (fun gs z => by subst z; cases hx)
  have hcl : Cls y y' := fun b c' gs hb => by
    by_cases ee : b = e
    · subst ee
      rw [c1] at hb
      obtain ⟨rfl, rfl⟩ := ob_inj.mp (Option.some.inj hb)
      exact ⟨_, e'⟩
    · exact ⟨gs, by rw [h1 b ee]; exact hb⟩
  have kw : PKw y y' := fun b x hb hx => hne b x hb (fun gs z => by
    subst z
    rcases hx with ⟨c', v, gs', z1, z2, -⟩ | ⟨u1, u2, u3, u4, z1, -⟩ | ⟨t, n, g', z1, -⟩
    · have := (ob_inj.mp z1).1
      omega
    · exact absurd (ob_inj.mp z1).1 (by decide)
    · exact ob_ne_ai z1)
  have k7 : K7 y y' := fun b v fs hb _ => hne b _ hb (fun _ => ob_ne (by decide))
  have sw : SW y y' := fun b z h0 zz hb => ⟨h0, zz, hne b _ hb (fun _ => ob_ne (by decide))⟩
  have kb : KB y y' := fun b c fs l1 l2 hb => hne b _ hb (fun _ => ob_ne (by omega))
  have hkf : KF y D y' D := KF.step hls (fun a xs hd => a2.1.cell hd)
  refine hp y' ⟨a1.mv rfl w' (fun b x hb hx => hne b x hb (fun gs z => ?_)) (fun a ha => h1 a (by omega)) (by omega), a2.step w' hls hcl, ⟨e', ?_, ?_, ⟨gn, hne _ _ d1 (fun _ => ar_ne_ob), fun k hk => ?_, d3⟩, ⟨gw, hne _ _ f1 (fun _ => ai_ne_ob), f2⟩, c5⟩, pT.st kw (fun r fs _ hr => hne _ _ hr (fun _ => ob_ne (by decide))) (fun _ _ z => z) hkf.one, pK, p4, p5, p6, p7, fun k a b => chP.st2 (v := 1000) (by omega) (p8 k a b) kw k7 sw (KD.rf _ D K) (by omega) rfl rfl (fun _ _ _ z => z)⟩ ⟨kw, k7, sw, kb, hcl, by omega⟩ hkf
  · subst z
    rcases hx with ⟨c', gs', z1, z2⟩ | ⟨n, g', z1⟩
    · obtain ⟨rfl, -⟩ := ob_inj.mp z1
      omega
    · exact ob_ne_ai z1
  · obtain ⟨xs, z1, z2⟩ := c2
    exact ⟨xs, z1, All2.imp z2 (fun _ _ z => z.pk kw)⟩
  · obtain ⟨xs, z1, z2⟩ := c3
    exact ⟨xs, z1, All2.imp z2 (fun _ _ z => z.pk kw (fun _ _ z => z))⟩
  · obtain ⟨q, z1, z2⟩ := d2 k hk
    exact ⟨q, z1, z2.pk kw⟩
theorem lfs_lt {E : Ed} {c n : Nat} (h : n ∈ lfs E c) : n < (eNd E).length := List.mem_range.mp (List.mem_filter.mp h).1
theorem lfs_row {E : Ed} {c n : Nat} (h : n ∈ lfs E c) : ∃ x : Nd, (eNd E)[n]? = some x ∧ ¬ x.1 < 0 ∧ x.2.2.2.2 = c := by
  have h2 := (List.mem_filter.mp h).2
  cases hx : (eNd E)[n]? with
  | none => rw [hx] at h2; cases h2
  | some x =>
    rw [hx] at h2
    have h3 : (!(decide (x.1 < 0)) && decide (x.2.2.2.2 = c)) = true := h2
    rw [Bool.and_eq_true] at h3
    refine ⟨x, rfl, fun z => ?_, of_decide_eq_true h3.2⟩
    rw [decide_eq_true z] at h3
    cases h3.1
theorem lfs_snoc {E : Ed} {c : Nat} {x : Nd} : lfs (uNd E (eNd E ++ [x])) c = if ¬ x.1 < 0 ∧ x.2.2.2.2 = c then lfs E c ++ [(eNd E).length] else lfs E c := by
  have e1 : ∀ (f : Nat → Bool), (List.range (eNd E ++ [x]).length).filter f = (List.range (eNd E).length).filter f ++ (if f (eNd E).length = true then [(eNd E).length] else []) := by
    intro f
    rw [List.length_append, List.length_singleton, List.range_succ, List.filter_append]
    congr 1
    by_cases h : f (eNd E).length = true
    · rw [if_pos h, List.filter_cons_of_pos h]; rfl
    · rw [if_neg h, List.filter_cons_of_neg h]; rfl
  show (List.range (eNd E ++ [x]).length).filter (fun n => match (eNd E ++ [x])[n]? with
    | none => false
    | some x => !(decide (x.1 < 0)) && decide (x.2.2.2.2 = c)) = _
  rw [e1]
  have e2 : (List.range (eNd E).length).filter (fun n => match (eNd E ++ [x])[n]? with
    | none => false
    | some x => !(decide (x.1 < 0)) && decide (x.2.2.2.2 = c)) = lfs E c := by
    unfold lfs
    refine List.filter_congr (fun n hn => ?_)
    rw [List.getElem?_append_left (List.mem_range.mp hn)]
    rfl
  rw [e2]
  have e3 : (eNd E ++ [x])[(eNd E).length]? = some x := by rw [List.getElem?_append_right (Nat.le_refl _), Nat.sub_self]; rfl
  show lfs E c ++ (if (match (eNd E ++ [x])[(eNd E).length]? with
    | none => false
    | some x => !(decide (x.1 < 0)) && decide (x.2.2.2.2 = c)) = true then _ else _) = _
  rw [e3]
  show lfs E c ++ (if (!(decide (x.1 < 0)) && decide (x.2.2.2.2 = c)) = true then _ else _) = _
  by_cases h : ¬ x.1 < 0 ∧ x.2.2.2.2 = c
  · rw [if_pos h, if_pos (by rw [decide_eq_false h.1, decide_eq_true h.2]; rfl)]
  · rw [if_neg h, if_neg, List.append_nil]
    intro z
    rw [Bool.and_eq_true] at z
    refine h ⟨fun w => ?_, of_decide_eq_true z.2⟩
    rw [decide_eq_true w] at z
    cases z.1
def gNd (g : EG) (N : Nat → Nat) (R : Nat → Nat → Nat → Prop) : EG := (N, gCR g, R, gLs g, gXc g)
def nNR (g : EG) (dm q n : Nat) : Nat → Nat → Nat → Prop := fun d r m => gNR g d r m ∨ (dm ≤ d ∧ r = q ∧ m = n)
def nNa (g : EG) (n q : Nat) : Nat → Nat := fun m => if m = n then q else gNa g m
/-- a row for a choice that is to come -/
theorem PE.pend {G : GP} {y : HS} {D : LM} {K : Nat → Nat} {e : Nat} {E : Ed} {nn : Nat} {g : EG} {gA : Nat → List Cn} {x : Nd} (h : PE G y D K e E nn g gA) (hx : x.1 < 0) : PE G y D K e (uNd E (eNd E ++ [x])) nn g gA := by
  obtain ⟨h1, ⟨t1, t2, t3, t4, t5, t6⟩, h3, h4, h5, h6, h7, h8⟩ := h
  refine ⟨h1, ⟨t1, t2, fun d r n z => ⟨(t3 d r n z).1.pk (PKw.rf y) (fun _ z => z) (KF.rf y D).one (fun _ z => app_row z) (fun _ _ _ z => z) (fun _ _ _ z => z), (t3 d r n z).2.1, ?_⟩, t4, t5, fun d r n x' z z1 z2 => t6 d r n x' z ?_ z2⟩, h3, h4, h5, h6, h7, fun k a b => chP.st2 (v := 1000) (by omega) (h8 k a b) (PKw.rf y) (fun _ _ _ h _ => h) (fun _ _ h zz hb => ⟨h, zz, hb⟩) (KD.rf _ D K) (by omega) rfl ?_ (fun _ _ _ z => z)⟩
  · show n < (eNd E ++ [x]).length
    rw [List.length_append]
    have := (t3 d r n z).2.2
    omega
  · have hl := (t3 d r n z).2.2
    have z1' : (eNd E ++ [x])[n]? = some x' := z1
    rw [List.getElem?_append_left hl] at z1'
    exact z1'
  · rw [lfs_snoc, if_neg (fun z => z.1 hx)]
/-- a leaf -/
theorem PE.leaf {G : GP} {y y' : HS} {D : LM} {K : Nat → Nat} {e : Nat} {E : Ed} {nn : Nat} {g : EG} {gA : Nat → List Cn} {tc k a ll : Nat} (h : PE G y D K e E nn g gA) (hK : K ll = 7 + 2 * tc) (hl : D ll = some ((lfs E tc).map (fun n => some (gNa g n)))) (ha : y.1 a = some (ob 11 [.int (nI k), .int 0])) (hk : k < 1000) (hno : ∀ d n, ¬ gNR g d a n) (kp : Kp y y') (kf : KF y D y' (va_up D ll (some ((lfs E tc).map (fun n => some (gNa g n)) ++ [some a])))) (hcell : ∀ j (h : j < (eCh E).length) (h2 : j < (gXc g).length), j = tc → ∃ v0 v1 v2 v3, y.1 (gXc g)[j] = some (ob 7 [v0, v1, v2, v3, va_rf (some ll)])) : PE G y' (va_up D ll (some ((lfs E tc).map (fun n => some (gNa g n)) ++ [some a]))) K e (uNd E (eNd E ++ [(nI k, 0, 0, 0, tc)])) nn (gNd g (nNa g (eNd E).length a) (nNR g 0 a (eNd E).length)) gA := by
  obtain ⟨h1, ⟨t1, t2, t3, t4, t5, t6⟩, h3, h4, h5, h6, h7, h8⟩ := h
  have ks := kp.pks
  have kd : KD (7 + 2 * tc) D K (va_up D ll (some ((lfs E tc).map (fun n => some (gNa g n)) ++ [some a]))) K := KD.lab hK
  have hpos : ¬ nI k < 0 := nI_nlt (a := k) (b := 0) (Nat.zero_le _) (by omega)
  have hrow : (eNd E ++ [((nI k, 0, 0, 0, tc) : Nd)])[(eNd E).length]? = some (nI k, 0, 0, 0, tc) := by rw [List.getElem?_append_right (Nat.le_refl _), Nat.sub_self]; rfl
  have hne : ∀ c, (lfs E c).map (fun n => some (nNa g (eNd E).length a n)) = (lfs E c).map (fun n => some (gNa g n)) := fun c => List.map_congr_left (fun n hn => by
    have := lfs_lt hn
    show some (if n = (eNd E).length then a else gNa g n) = _
    rw [if_neg (by omega)])
  refine ⟨peC.st h3 h1 ks kd (by omega), ⟨fun d r i z => (t1 d r i z).pk ks.1 (kd.df (by omega)) (fun _ _ z => z) (fun _ _ _ z => z), t2, fun d r n z => ?_, fun d d' r n hd z => ?_, fun d d' r n n' z z' => ?_, fun d r n x z z1 z2 => ?_⟩, h3.st h1 h4 kd (by omega), (kd _ _ h4 (by rw [h3.1]; omega)).2 (by rw [h3.1]; omega), h5, h6, h7, fun j a1 b1 => ?_⟩
  · rcases z with z | ⟨-, rfl, rfl⟩
    · obtain ⟨z1, z2, z3⟩ := t3 d r n z
      refine ⟨z1.pk ks.1 (ks.k11 r) kf.one (fun _ z => app_row z) (fun _ _ _ z => z) (fun _ _ _ z => Or.inl z), ?_, ?_⟩
      · show r = if n = (eNd E).length then a else gNa g n
        rw [if_neg (by omega)]; exact z2
      · show n < (eNd E ++ [_]).length
        rw [List.length_append]; omega
    · refine ⟨Or.inl ⟨_, false, hrow, hpos, ks.k11 _ _ ha⟩, ?_, ?_⟩
      · show r = if (eNd E).length = (eNd E).length then r else _
        rw [if_pos rfl]
      · show (eNd E).length < (eNd E ++ [_]).length
        rw [List.length_append]; exact Nat.lt_succ_self _
  · rcases z with z | ⟨z1, z2, z3⟩
    · exact Or.inl (t4 d d' r n hd z)
    · exact Or.inr ⟨Nat.zero_le _, z2, z3⟩
  · rcases z with z | ⟨-, rfl, rfl⟩
    · rcases z' with z' | ⟨-, rfl, rfl⟩
      · exact t5 d d' r n n' z z'
      · exact absurd z (hno d n)
    · rcases z' with z' | ⟨-, -, rfl⟩
      · exact absurd z' (hno d' n')
      · rfl
  · rcases z with z | ⟨-, rfl, rfl⟩
    · have hl := (t3 d r n z).2.2
      have z1' : (eNd E ++ [((nI k, 0, 0, 0, tc) : Nd)])[n]? = some x := z1
      rw [List.getElem?_append_left hl] at z1'
      exact ks.k11 _ _ (t6 d r n x z z1' z2)
    · have z1' : (eNd E ++ [((nI k, 0, 0, 0, tc) : Nd)])[(eNd E).length]? = some x := z1
      rw [hrow] at z1'
      cases z1'
      exact ks.k11 _ _ ha
  · have a1' : j < (eCh E).length := a1
    by_cases hj : j = tc
    · obtain ⟨v0, v1, v2, v3, cc⟩ := hcell j a1 b1 hj
      subst hj
      obtain ⟨nm, l, la, ll2, tr, c1, c2, c3, c4, c5, ⟨xs2, c6, c7⟩, c8, c9⟩ := h8 j a1 b1
      have e1 : ll2 = ll := by
        have := (ob_inj.mp (Option.some.inj (c1.symm.trans cc))).2
        injection this with _ this
        injection this with _ this
        injection this with _ this
        injection this with _ this
        injection this with this _
        exact Option.some.inj (va_rf_inj.mp this)
      subst e1
      obtain ⟨b1', b2⟩ := kd _ _ c6 (by omega)
      refine ⟨nm, l, la, ll2, tr, ks.2.1 _ _ c1 (Or.inr (Or.inl ⟨_, _, rfl, rf_ne⟩)), c2.pk ks, c3.pk ks.1 (kd.df (by omega)), c4, c5, ⟨xs2, b2 (by omega), All2.imp c7 (fun r x z => ?_)⟩, ?_, ?_⟩
      · obtain ⟨q2, z1, z2⟩ := z
        exact ⟨q2, z1, z2.pk ks.1⟩
      · rw [up_at, lfs_snoc, if_pos ⟨hpos, rfl⟩, List.map_append]
        show some (_ ++ [some a]) = some ((lfs E j).map (fun n => some (nNa g (eNd E).length a n)) ++ [some (nNa g (eNd E).length a (eNd E).length)])
        rw [hne]
        congr 2
        show [some a] = [some (if (eNd E).length = (eNd E).length then a else _)]
        rw [if_pos rfl]
      · rcases c9 with c9 | ⟨t, z1, z2, z3⟩
        · exact Or.inl c9
        · exact Or.inr ⟨t, z1, z2, Or.inl z3⟩
    · refine chP.st (by omega) (h8 j a1 b1) ks kd (by omega) rfl ?_ (fun _ _ _ z => Or.inl z)
      rw [lfs_snoc, if_neg (fun z => hj z.2.symm)]
      exact hne j
/-- a choice -/
theorem PE.choice {G : GP} {y : HS} {D : LM} {K : Nat → Nat} {e : Nat} {E : Ed} {nn : Nat} {g : EG} {gA : Nat → List Cn} {tc i c t u a cr arr r1 r2 dm : Nat} {gg : Nat → Option Nat} {x0 : Nd} (h : PE G y D K e E nn g gA) (hrow : (eNd E)[i]? = some x0) (hx0 : x0.1 < 0) (hni : ∀ d r, ¬ gNR g d r i) (hna : ∀ d n, ¬ gNR g d a n) (ha : y.1 a = some (ob 14 [va_rf (some cr), va_rf (some arr)])) (hfx : FX y D arr 2 gg) (hg0 : gg 0 = some r1) (hg1 : gg 1 = some r2) (hC : gCR g 40 cr c) (h1 : gNR g dm r1 t) (h2 : gNR g dm r2 u) : PE G y D K e (uNd E ((eNd E).set i (-1, c, t, u, tc))) nn (gNd g (nNa g i a) (nNR g (dm + 1) a i)) gA := by
  obtain ⟨q1, ⟨t1, t2, t3, t4, t5, t6⟩, q3, q4, q5, q6, q7, q8⟩ := h
  have hil : i < (eNd E).length := (List.getElem?_eq_some_iff.mp hrow).1
  have hset : ((eNd E).set i ((-1, c, t, u, tc) : Nd))[i]? = some (-1, c, t, u, tc) := by rw [List.getElem?_set_self hil]
  have hsn : ∀ n, n ≠ i → ((eNd E).set i ((-1, c, t, u, tc) : Nd))[n]? = (eNd E)[n]? := fun n hn => List.getElem?_set_ne (fun z => hn z.symm)
  have hlf : ∀ c', lfs (uNd E ((eNd E).set i (-1, c, t, u, tc))) c' = lfs E c' := by
    intro c'
    show (List.range ((eNd E).set i ((-1, c, t, u, tc) : Nd)).length).filter (fun n => match ((eNd E).set i ((-1, c, t, u, tc) : Nd))[n]? with
      | none => false
      | some x => !(decide (x.1 < 0)) && decide (x.2.2.2.2 = c')) = _
    rw [List.length_set]
    unfold lfs
    refine List.filter_congr (fun n hn => ?_)
    by_cases e9 : n = i
    · subst e9
      rw [hset, hrow]
      show (!(decide ((-1 : Int32) < 0)) && decide (tc = c')) = (!(decide (x0.1 < 0)) && decide (x0.2.2.2.2 = c'))
      rw [decide_eq_true hx0, decide_eq_true (show (-1 : Int32) < 0 by decide)]
      rfl
    · rw [hsn n e9]
      rfl
  have hne : ∀ c', (lfs E c').map (fun n => some (nNa g i a n)) = (lfs E c').map (fun n => some (gNa g n)) := fun c' => List.map_congr_left (fun n hn => by
    obtain ⟨x, z1, z2, -⟩ := lfs_row hn
    show some (if n = i then a else gNa g n) = _
    rw [if_neg (fun z => by rw [z, hrow] at z1; cases z1; exact z2 hx0)])
  refine ⟨q1, ⟨t1, t2, fun d r n z => ?_, fun d d' r n hd z => ?_, fun d d' r n n' z z' => ?_, fun d r n x z z1 z2 => ?_⟩, q3, q4, q5, q6, q7, fun j a1 b1 => chP.st2 (v := 1000) (by have z9 : j < (eCh E).length := a1; omega) (q8 j a1 b1) (PKw.rf y) (fun _ _ _ h _ => h) (fun _ _ h zz hb => ⟨h, zz, hb⟩) (KD.rf _ D K) (by have z9 : j < (eCh E).length := a1; omega) rfl ?_ (fun _ _ _ z => Or.inl z)⟩
  · rcases z with z | ⟨hd, rfl, rfl⟩
    · obtain ⟨z1, z2, z3⟩ := t3 d r n z
      have hn : n ≠ i := fun ee => by rw [ee] at z; exact hni d r z
      refine ⟨z1.pk (PKw.rf y) (fun _ z => z) (KF.rf y D).one (fun x hx => ?_) (fun _ _ _ z => z) (fun _ _ _ z => Or.inl z), ?_, ?_⟩
      · show ((eNd E).set i ((-1, c, t, u, tc) : Nd))[n]? = some x
        rw [hsn n hn]; exact hx
      · show r = if n = i then a else gNa g n
        rw [if_neg hn]; exact z2
      · show n < ((eNd E).set i _).length
        rw [List.length_set]; exact z3
    · obtain ⟨d', rfl⟩ : ∃ d', d = d' + 1 := ⟨d - 1, by omega⟩
      refine ⟨Or.inr ⟨d', _, cr, arr, r1, r2, gg, rfl, hset, (show (-1 : Int32) < 0 by decide), ha, hfx, hg0, hg1, hC, Or.inl (t4 dm d' _ _ (by omega) h1), Or.inl (t4 dm d' _ _ (by omega) h2)⟩, ?_, ?_⟩
      · show r = if n = n then r else _
        rw [if_pos rfl]
      · show n < ((eNd E).set n _).length
        rw [List.length_set]; exact hil
  · rcases z with z | ⟨z1, z2, z3⟩
    · exact Or.inl (t4 d d' r n hd z)
    · exact Or.inr ⟨by omega, z2, z3⟩
  · rcases z with z | ⟨-, rfl, rfl⟩
    · rcases z' with z' | ⟨-, rfl, rfl⟩
      · exact t5 d d' r n n' z z'
      · exact absurd z (hna d n)
    · rcases z' with z' | ⟨-, -, rfl⟩
      · exact absurd z' (hna d' n')
      · rfl
  · rcases z with z | ⟨-, rfl, rfl⟩
    · have hn : n ≠ i := fun ee => by rw [ee] at z; exact hni d r z
      have z1' : ((eNd E).set i ((-1, c, t, u, tc) : Nd))[n]? = some x := z1
      rw [hsn n hn] at z1'
      exact t6 d r n x z z1' z2
    · have z1' : ((eNd E).set n ((-1, c, t, u, tc) : Nd))[n]? = some x := z1
      rw [hset] at z1'
      cases z1'
      exact absurd (by decide : (-1 : Int32) < 0) z2
  · rw [hlf]; exact hne j
