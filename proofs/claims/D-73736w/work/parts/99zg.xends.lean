/-! The component's reader: the end of an edition -/
set_option maxRecDepth 100000
/-- an edition that was read, its leaves L listed, the leaves M met -/
def ENs (G : GP) (n0 : Nat) (y : HS) (D : LM) (K : Nat → Nat) (e : Nat) (E : Ed) (g : EG) (gA : Nat → List Cn) (M : Nat → Bool) (L : List Nat × List Nat) : Prop :=
  V2 G n0 y D ∧ peC y D K e E (eNd E).length g ∧ (∀ d r i, gCR g d r i → CS G y (Df K D) (eCn E) (gCR g) d r i) ∧ (∀ d r n, gNR g d r n → NS y D (eNd E) (gCR g) (gNR g) d r n ∧ r = gNa g n ∧ n < (eNd E).length) ∧
  (K (gLs g).1 = 1 ∧ K (gLs g).2.1 = 2 ∧ K (gLs g).2.2.1 = 3 ∧ K (gLs g).2.2.2.1 = 4 ∧ K (gLs g).2.2.2.2.1 = 5) ∧ peH G y D K g gA E ∧
  (∀ (n : Nat) (x : Nd), (eNd E)[n]? = some x → ¬ x.1 < 0 → y.1 (gNa g n) = some (ob 11 [.int x.1, .int (bi (M n))])) ∧ (∀ m n, m < (eNd E).length → n < (eNd E).length → gNa g m = gNa g n → m = n) ∧
  D (gLs g).2.2.2.1 = some (L.1.map (fun n => some (gNa g n))) ∧ D (gLs g).2.2.2.2.1 = some (L.2.map (fun n => some ((gXc g).getD (chOf E n) 0)))
theorem ENs.st {G : GP} {n0 : Nat} {y y' : HS} {D D' : LM} {K K' : Nat → Nat} {e : Nat} {E : Ed} {g : EG} {gA : Nat → List Cn} {M : Nat → Bool} {L : List Nat × List Nat} (h : ENs G n0 y D K e E g gA M L) (hv : V2 G n0 y' D') (kp : PKs y y') (kf : KF1 y D y' D') (kd : KD 1000 D K D' K') : ENs G n0 y' D' K' e E g gA M L := by
  obtain ⟨h1, h2, h3, h4, ⟨k1, k2, k3, k4, k5⟩, ⟨p4, p5, p6, p7, p8⟩, h7, h8, h9, h10⟩ := h
  obtain ⟨c1, ⟨xs, a1, a2⟩, ⟨ys, b1, b2⟩, ⟨gn, d1, d2, d3⟩, ⟨gw, f1, f2⟩, c5⟩ := h2
  obtain ⟨r1, s1⟩ := kd _ _ p4 (by omega)
  obtain ⟨r2, s2⟩ := kd _ _ a1 (by omega)
  obtain ⟨r3, s3⟩ := kd _ _ b1 (by omega)
  obtain ⟨r4, s4⟩ := kd _ _ h9 (by omega)
  obtain ⟨r5, s5⟩ := kd _ _ h10 (by omega)
  refine ⟨hv, ⟨kp.2.1 _ _ c1 (Or.inl ⟨_, rfl⟩), ⟨xs, s2 (by omega), All2.imp a2 (fun _ _ z => z.pk kp.1)⟩, ⟨ys, s3 (by omega), All2.imp b2 (fun _ _ z => z.pk kp.1 (kd.df (by decide)))⟩, ⟨gn, kp.2.1 _ _ d1 (Or.inr (Or.inr (Or.inl ⟨_, _, rfl⟩))), fun i hi => ?_, d3⟩, ⟨gw, kp.2.1 _ _ f1 (Or.inr (Or.inr (Or.inr (Or.inl ⟨_, _, rfl⟩)))), f2⟩, c5⟩, fun d r i z => (h3 d r i z).pk kp.1 (kd.df (by decide)) (fun _ _ z => z) (fun _ _ _ z => z), fun d r n z => ⟨(h4 d r n z).1.pk kp.1 (kp.k11 r) kf (fun _ z => z) (fun _ _ _ z => z) (fun _ _ _ z => z), (h4 d r n z).2⟩, ⟨r1.trans k1, r2.trans k2, r3.trans k3, r4.trans k4, r5.trans k5⟩, ⟨s1 (by omega), p5, p6, p7, fun k a b => chP.st (by omega) (p8 k a b) kp kd (by omega) rfl rfl (fun _ _ _ z => z)⟩, fun n x z1 z2 => kp.k11 _ _ (h7 n x z1 z2), h8, s4 (by omega), s5 (by omega)⟩
  obtain ⟨q, z1, z2⟩ := d2 i hi
  exact ⟨q, z1, z2.pk kp.1⟩
/-- a step that keeps the lists -/
theorem ENs.q {G : GP} {n0 : Nat} {y y' : HS} {D : LM} {K : Nat → Nat} {e : Nat} {E : Ed} {g : EG} {gA : Nat → List Cn} {M : Nat → Bool} {L : List Nat × List Nat} (h : ENs G n0 y D K e E g gA M L) (hw : WF G y') (hk : ∀ b x, y.1 b = some x → (∀ fs, x ≠ ob 16 fs) → y'.1 b = some x) (hc : Cls y y') : ENs G n0 y' D K e E g gA M L := by
  have hls : ∀ b e, y.1 b = some e → isLs e = true → y'.1 b = some e := fun b x hb hx => hk b x hb (fun fs z => by subst z; cases hx)
  refine h.st (h.1.step hw hls hc) ⟨fun b x hb hx => hk b x hb (fun fs z => ?_), fun b x hb hx => hk b x hb (fun fs z => ?_), fun b z h0 zz hb => ⟨h0, zz, hk b _ hb (fun _ => ob_ne (by decide))⟩⟩ (KF.step hls (fun a xs hd => h.1.1.cell hd)).one (KD.rf _ D K)
  · subst z
    rcases hx with ⟨c', v, gs', z1, z2, z3, -⟩ | ⟨u1, u2, u3, u4, z1, -⟩ | ⟨t, n, g', z1, -⟩
    · have := (ob_inj.mp z1).1
      omega
    · exact absurd (ob_inj.mp z1).1 (by decide)
    · exact ob_ne_ai z1
  · subst z
    rcases hx with ⟨gs, z1⟩ | ⟨v, gs, z1, -⟩ | ⟨n9, g9, z1⟩ | ⟨n9, g9, z1⟩ | ⟨gs, z1⟩
    · exact absurd (ob_inj.mp z1).1 (by decide)
    · exact absurd (ob_inj.mp z1).1 (by decide)
    · exact ob_ne_ar z1
    · exact ob_ne_ai z1
    · exact absurd (ob_inj.mp z1).1 (by decide)
theorem ENs.nw {G : GP} {n0 : Nat} {y : HS} {D : LM} {K : Nat → Nat} {e : Nat} {E : Ed} {g : EG} {gA : Nat → List Cn} {M : Nat → Bool} {L : List Nat × List Nat} {x : HE} (h : ENs G n0 y D K e E g gA M L) : ENs G n0 (hnew y x) D K e E g gA M L := h.q h.1.1.1.new (fun b z hb _ => by rw [hnew_ne (Nat.ne_of_lt (h.1.1.1.lt hb))]; exact hb) (Cls.new h.1.1.1)
theorem ENs.p16 {G : GP} {n0 : Nat} {y : HS} {D : LM} {K : Nat → Nat} {e a : Nat} {E : Ed} {g : EG} {gA : Nat → List Cn} {M : Nat → Bool} {L : List Nat × List Nat} {fs fs' : List Value} (h : ENs G n0 y D K e E g gA M L) (ha : y.1 a = some (ob 16 fs)) : ENs G n0 (hput y a (ob 16 fs')) D K e E g gA M L := h.q (h.1.1.1.put ha) (fun b z hb hz => by
  rw [hput_ne (fun ee => by rw [ee, ha] at hb; exact hz _ (Option.some.inj hb).symm)]; exact hb) (Cls.put ha)
/-- a leaf is met -/
theorem ENs.mark {G : GP} {n0 : Nat} {y : HS} {D : LM} {K : Nat → Nat} {e n : Nat} {E : Ed} {g : EG} {gA : Nat → List Cn} {M : Nat → Bool} {L : List Nat × List Nat} {x : Nd} (h : ENs G n0 y D K e E g gA M L) (hx : (eNd E)[n]? = some x) (hp : ¬ x.1 < 0) : ENs G n0 (hput y (gNa g n) (ob 11 [.int x.1, .int (nI 1)])) D K e E g gA (fun m => if m = n then true else M m) L := by
  obtain ⟨h1, h2, h3, h4, h5, ⟨p4, p5, p6, p7, p8⟩, h7, h8, h9, h10⟩ := h
  have hr := h7 n x hx hp
  have hnl : n < (eNd E).length := (List.getElem?_eq_some_iff.mp hx).1
  have hw := h1.1.1
  have w' : WF G (hput y (gNa g n) (ob 11 [.int x.1, .int (nI 1)])) := hw.put hr
  have hne : ∀ b z, y.1 b = some z → (∀ fs, z ≠ ob 11 fs) → (hput y (gNa g n) (ob 11 [.int x.1, .int (nI 1)])).1 b = some z := fun b z hb hz => by
    rw [hput_ne (fun ee => by rw [ee, hr] at hb; exact hz _ (Option.some.inj hb).symm)]; exact hb
  have hls : ∀ b e, y.1 b = some e → isLs e = true → (hput y (gNa g n) (ob 11 [.int x.1, .int (nI 1)])).1 b = some e := fun b z hb hz => hne b z hb (fun fs w => by subst w; cases hz)
  have hcl : Cls y (hput y (gNa g n) (ob 11 [.int x.1, .int (nI 1)])) := Cls.put hr
  have kw : PKw y (hput y (gNa g n) (ob 11 [.int x.1, .int (nI 1)])) := fun b z hb hz => hne b z hb (fun fs w => by
    subst w
    rcases hz with ⟨c', v, gs', z1, z2, z3, z4, -⟩ | ⟨u1, u2, u3, u4, z1, -⟩ | ⟨t, n, g', z1, -⟩
    · exact z4 (ob_inj.mp z1).1.symm
    · exact absurd (ob_inj.mp z1).1 (by decide)
    · exact ob_ne_ai z1)
  have kc : ∀ b z, y.1 b = some z → isC z → (∀ fs, z ≠ ob 11 fs) → (hput y (gNa g n) (ob 11 [.int x.1, .int (nI 1)])).1 b = some z := fun b z hb _ hz => hne b z hb hz
  have sw : SW y (hput y (gNa g n) (ob 11 [.int x.1, .int (nI 1)])) := fun b z h0 zz hb => ⟨h0, zz, hne b _ hb (fun _ => ob_ne (by decide))⟩
  have kf : KF y D (hput y (gNa g n) (ob 11 [.int x.1, .int (nI 1)])) D := KF.step hls (fun a xs hd => h1.1.cell hd)
  obtain ⟨c1, ⟨xs, a1, a2⟩, ⟨ys, b1, b2⟩, ⟨gn, d1, d2, d3⟩, ⟨gw, f1, f2⟩, c5⟩ := h2
  refine ⟨h1.step w' hls hcl, ⟨hne _ _ c1 (fun _ => ob_ne (by decide)), ⟨xs, a1, All2.imp a2 (fun _ _ z => z.pk kw)⟩, ⟨ys, b1, All2.imp b2 (fun _ _ z => z.pk kw (fun _ _ z => z))⟩, ⟨gn, hne _ _ d1 (fun _ => ar_ne_ob), fun i hi => ?_, d3⟩, ⟨gw, hne _ _ f1 (fun _ => ai_ne_ob), f2⟩, c5⟩, fun d r i z => (h3 d r i z).pk kw (fun _ _ z => z) (fun _ _ z => z) (fun _ _ _ z => z), fun d r m z => ⟨?_, (h4 d r m z).2⟩, h5, ⟨p4, p5, p6, p7, fun k a b => chP.st2 (v := 1000) (by omega) (p8 k a b) kw (fun b v fs hb _ => hne _ _ hb (fun _ => ob_ne (by decide))) sw (KD.rf _ D K) (by omega) rfl rfl (fun _ _ _ z => z)⟩, fun m x' z1 z2 => ?_, h8, h9, h10⟩
  · obtain ⟨q, z1, z2⟩ := d2 i hi
    exact ⟨q, z1, z2.pk kw⟩
  · obtain ⟨z1, z2, z3⟩ := h4 d r m z
    rcases z1 with ⟨x', mt, e1, e2, e3⟩ | z1
    · by_cases hm : m = n
      · subst hm
        rw [hx] at e1
        cases e1
        exact Or.inl ⟨x, true, hx, hp, by rw [z2, hput_at]; rfl⟩
      · refine Or.inl ⟨x', mt, e1, e2, ?_⟩
        rw [hput_ne (fun ee => hm (h8 m n z3 hnl (z2.symm.trans ee)))]
        exact e3
    · exact NS.pk (Or.inr z1) kw (fun fs hb => by
        obtain ⟨d', x', cr, arr, r1, r2, g9, -, -, -, w, -⟩ := z1
        rw [w] at hb
        exact absurd (ob_inj.mp (Option.some.inj hb)).1 (by decide)) kf.one (fun _ z => z) (fun _ _ _ z => z) (fun _ _ _ z => z)
  · by_cases hm : m = n
    · subst hm
      rw [hx] at z1
      cases z1
      rw [hput_at]
      show _ = some (ob 11 [.int x.1, .int (bi (if m = m then true else M m))])
      rw [if_pos rfl]
      rfl
    · rw [hput_ne (fun ee => hm (h8 m n (List.getElem?_eq_some_iff.mp z1).1 hnl ee))]
      show _ = some (ob 11 [.int x'.1, .int (bi (if m = n then true else M m))])
      rw [if_neg hm]
      exact h7 m x' z1 z2
/-- down a tree, as tried -/
theorem sp_goes16 {G : GP} {n0 : Nat} {y : HS} {D : LM} {K : Nat → Nat} {e a : Nat} {E : Ed} {g : EG} {gA : Nat → List Cn} {M : Nat → Bool} {L : List Nat × List Nat} {an age days level top : Int32} (h : ENs G n0 y D K e E g gA M L) (ho : cOk (eCn E)) (hn : nOk E) (hs : y.1 a = some (ob 16 [.int an, .int age, .int days, .int level, .int top])) : ∀ (d r n m f : Nat) (post : Option Nat → HS → Prop), d < m → (eNd E).length ≤ n + f + 1 → gNR g d r n → post (some (gNa g (gn (evB an age days level top) (eNd E) (eCn E) f n).1)) y → wp_goes16 G m post y a (some r) := by
  intro d
  induction d with
  | zero =>
    intro r n m f post hm hf hr hp
    cases m with
    | zero => exact absurd hm (Nat.not_lt_zero _)
    | succ m =>
      obtain ⟨h1, h2, h3⟩ := h.2.2.2.1 0 r n hr
      rcases h1 with ⟨x, mt, e1, e2, e3⟩ | ⟨d', x, cr, arr, r1, r2, g9, e0, -⟩
      · rw [gn_leaf e1 e2] at hp
        exact ⟨true, Or.inr ⟨r, 11, _, rfl, Or.inl e3, by decide, Or.inl ⟨rfl, rfl⟩⟩, fun h => (by cases h), fun _ => ⟨fun z hz => (by cases hz; exact ⟨_, Or.inl e3⟩), by rw [h2]; exact hp⟩⟩
      · omega
  | succ d ih =>
    intro r n m f post hm hf hr hp
    cases m with
    | zero => exact absurd hm (Nat.not_lt_zero _)
    | succ m =>
      obtain ⟨h1, h2, h3⟩ := h.2.2.2.1 (d + 1) r n hr
      rcases h1 with ⟨x, mt, e1, e2, e3⟩ | ⟨d', x, cr, arr, r1, r2, g9, e0, e1, e2, e3, e4, e5, e6, e7, e8, e9⟩
      · rw [gn_leaf e1 e2] at hp
        exact ⟨true, Or.inr ⟨r, 11, _, rfl, Or.inl e3, by decide, Or.inl ⟨rfl, rfl⟩⟩, fun h => (by cases h), fun _ => ⟨fun z hz => (by cases hz; exact ⟨_, Or.inl e3⟩), by rw [h2]; exact hp⟩⟩
      · have hd' : d' = d := by omega
        subst hd'
        obtain ⟨u1, u2, u3, u4, u5⟩ := (hn n x e1).1 e2
        obtain ⟨f, rfl⟩ : ∃ f', f = f' + 1 := ⟨f - 1, by omega⟩
        rw [gn_step e1 e2] at hp
        refine ⟨false, Or.inr ⟨r, 14, _, rfl, Or.inl e3, by decide, Or.inr ⟨by decide, by decide, rfl⟩⟩, fun _ => ⟨fun y5 b6 r7 r8 => y5 = y ∧ b6 = !(vl (evB an age days level top) (eCn E) x.2.1) ∧ r7 = some arr ∧ r8 = some a, ?_, fun z hz => (by cases hz; exact ⟨_, Or.inl e3⟩), r, rfl, _, ⟨_, e3, rfl⟩, ⟨_, Or.inl hs⟩, ?_⟩, fun h => (by cases h)⟩
        · rintro y5 b6 r7 r8 ⟨rfl, rfl, rfl, rfl⟩
          refine ⟨arr, rfl, 2, g9, Or.inl e4.1, ?_, a, rfl, ⟨_, Or.inl hs⟩, ?_⟩
          · cases vl (evB an age days level top) (eCn E) x.2.1
            · exact vp_inN (i := 1) (by omega) (by omega)
            · exact vp_inN (i := 0) (by omega) (by omega)
          · cases hb : vl (evB an age days level top) (eCn E) x.2.1 with
            | true =>
              have hg : g9 (bi (!true)).toNatClampNeg = some r1 := e5
              rw [hg]
              rw [hb] at hp
              exact ih r1 x.2.2.1 m f _ (by omega) (by omega) e8 hp
            | false =>
              have hg : g9 (bi (!false)).toNatClampNeg = some r2 := e6
              rw [hg]
              rw [hb] at hp
              exact ih r2 x.2.2.2.1 m f _ (by omega) (by omega) e9 hp
        · refine sp_is16 (CR := gCR g) h.1.1 hs ho (fun d2 r2 i2 z => (h.2.2.1 d2 r2 i2 z).sub (fun l xs hl => (Df.sub hl).1)) 40 cr x.2.1 e7 _ _ (by decide) ⟨⟨_, Or.inl hs⟩, ?_⟩
          exact ⟨_, ⟨_, e3, rfl⟩, fun hb => ⟨rfl, by rw [hb]; rfl, rfl, rfl⟩, fun hb => ⟨rfl, by rw [hb]; rfl, rfl, rfl⟩⟩
theorem tns_snoc {w : Nat} {lo hi : Int32} {A : List Cn} {k : Cn} : tns w lo hi (A ++ [k]) = if tIn w lo hi k = true then tns w lo hi A ++ [tAt k] else tns w lo hi A := by
  unfold tns
  rw [List.filter_append]
  by_cases h : tIn w lo hi k = true
  · rw [if_pos h, List.filter_cons_of_pos h, List.map_append]; rfl
  · rw [if_neg h, List.filter_cons_of_neg h, List.filter_nil, List.append_nil]
theorem ENs.chap {G : GP} {n0 : Nat} {y : HS} {D : LM} {K : Nat → Nat} {e k : Nat} {E : Ed} {g : EG} {gA : Nat → List Cn} {M : Nat → Bool} {L : List Nat × List Nat} (h : ENs G n0 y D K e E g gA M L) (hk : k < (eCh E).length) : ∃ cq nm l la ll tr xs, (gXc g)[k]? = some cq ∧ y.1 cq = some (ob 7 [va_rf (some nm), va_rf (some l), va_rf tr, va_rf (some la), va_rf (some ll)]) ∧ D la = some xs ∧ All2 (atL G y) xs (gA k) ∧ D ll = some ((lfs E k).map (fun n => some (gNa g n))) ∧ (((eCh E)[k].2.2 = -1 ∧ tr = none) ∨ ∃ t, tr = some t ∧ 0 ≤ (eCh E)[k].2.2 ∧ gNR g 11 t (ix (eCh E)[k].2.2)) ∧ K la = 6 + 2 * k ∧ K ll = 7 + 2 * k := by
  obtain ⟨-, -, -, -, -, ⟨-, -, p6, -, p8⟩, -⟩ := h
  have hk2 : k < (gXc g).length := by rw [p6]; exact hk
  obtain ⟨nm, l, la, ll, tr, c1, c2, c3, c4, c5, ⟨xs, c6, c7⟩, c8, c9⟩ := p8 k hk hk2
  exact ⟨_, nm, l, la, ll, tr, xs, List.getElem?_eq_getElem hk2, c1, c6, c7, c8, c9, c4, c5⟩
