/-! The component's reader: nodes, walked -/
set_option maxRecDepth 100000
theorem V.fx {G : GP} {y : HS} {D : LM} {n l : Nat} {g : Nat → Option Nat} {ls : List (Option Nat)} (h : V G y D) (hl : D l = some ls) : FX (hnew y (ar 6 n g)) D y.2 n g := by
  refine ⟨hnew_at _ _, fun a xs hd fs hf hq => ?_, l, ls, hl, by obtain ⟨fs, z⟩ := h.cell hl; exact Nat.le_of_lt (h.1.lt z)⟩
  obtain ⟨hw, A, C, h1, -⟩ := h
  obtain ⟨⟨⟨md, c1⟩, -, c3⟩, -⟩ := h1 a xs hd
  have la := hw.lt c1
  rw [hnew_ne (by omega), c1] at hf
  obtain ⟨-, rfl⟩ := ob_inj.mp (Option.some.inj hf)
  have e : A a = y.2 := Option.some.inj (va_rf_inj.mp (Option.some.inj hq))
  rcases c3 with ⟨z1, -⟩ | ⟨g', z1, -⟩
  · have := hw.2.1
    have := hw.2.2
    omega
  · have := hw.lt z1
    omega
/-- an array that isn't full yet is written -/
theorem PX.pa {G : GP} {y0 : HS} {n0 : Nat} {y : HS} {R e X tp op ln q n : Nat} {ch : Option Nat} {bs : List Nat} {s : PS} {nn : Nat} {D : LM} {K : Nat → Nat} {g : EG} {gA : Nat → List Cn} {gq g' : Nat → Option Nat} (h : PX G y0 n0 y R e X tp op ln ch bs s nn D K g gA) (hq : FX y D q n gq) (hg : gq 1 = none) (hn : n0 ≤ q) : PX G y0 n0 (hput y q (ar 6 n g')) R e X tp op ln ch bs s nn D K g gA ∧ FX (hput y q (ar 6 n g')) D q n g' := by
  obtain ⟨a1, a2, a3⟩ := h
  have hw := a1.wf
  obtain ⟨hv, hN⟩ := a2
  have hne : ∀ b x, y.1 b = some x → (∀ g, x ≠ ar 6 n g) → (hput y q (ar 6 n g')).1 b = some x := fun b x hb hx => by
    rw [hput_ne (fun e => by rw [e, hq.1] at hb; exact hx _ (Option.some.inj hb).symm)]
    exact hb
  have ob_ar : ∀ c (fs : List Value) g, ob c fs ≠ ar 6 n g := fun c fs g => ob_ne_ar
  have w' : WF G (hput y q (ar 6 n g')) := hw.put hq.1
  have hcl : Cls y (hput y q (ar 6 n g')) := fun b c fs hb => ⟨fs, hne b _ hb (ob_ar c fs)⟩
  have hv2 : V2 G n0 (hput y q (ar 6 n g')) D := by
    refine ⟨?_, fun a xs hd => ⟨(hN a xs hd).1, fun fs q2 hf hq2 => ?_⟩⟩
    · obtain ⟨-, A, C, h1, h2⟩ := hv
      refine ⟨w', A, C, fun a xs hd => ?_, h2⟩
      obtain ⟨⟨⟨md, c1⟩, c2, c3⟩, c4⟩ := h1 a xs hd
      refine ⟨⟨⟨md, hne _ _ c1 (ob_ar _ _)⟩, c2, ?_⟩, fun x hx => (c4 x hx).cls hcl⟩
      rcases c3 with c3 | ⟨g9, e1, e2⟩
      · exact Or.inl c3
      · refine Or.inr ⟨g9, ?_, e2⟩
        rw [hput_ne (fun ee => hq.2.1 a xs hd _ c1 (by rw [ee]; rfl))]
        exact e1
    · obtain ⟨fs0, h0⟩ := hv.cell hd
      have h1 := hne _ _ h0 (ob_ar _ _)
      rw [h1] at hf
      obtain ⟨-, rfl⟩ := ob_inj.mp (Option.some.inj hf)
      exact (hN a xs hd).2 fs0 q2 h0 hq2
  have fxl : ∀ q2 a xs, D a = some xs → (∀ fs, y.1 a = some (ob 18 fs) → fs[1]? ≠ some (va_rf (some q2))) → ∀ fs, (hput y q (ar 6 n g')).1 a = some (ob 18 fs) → fs[1]? ≠ some (va_rf (some q2)) := fun q2 a xs hd h9 fs hf => by
    obtain ⟨fs0, h0⟩ := hv.cell hd
    have h1 := hne _ _ h0 (ob_ar _ _)
    rw [h1] at hf
    obtain ⟨-, rfl⟩ := ob_inj.mp (Option.some.inj hf)
    exact h9 fs0 h0
  have kf1 : KF1 y D (hput y q (ar 6 n g')) D := fun q2 n2 g2 hx h1 => by
    have hqq : q2 ≠ q := fun ee => by
      have z1 := hx.1
      rw [ee, hq.1] at z1
      have z2 := Option.some.inj z1
      injection z2 with z2
      injection z2 with _ z2
      injection z2 with _ z2
      injection z2 with z2
      injection z2 with z2
      rw [z2] at hg
      exact h1 hg
    exact ⟨by rw [hput_ne hqq]; exact hx.1, fun a xs hd => fxl q2 a xs hd (hx.2.1 a xs hd), hx.2.2⟩
  refine ⟨⟨a1.mv rfl w' (fun b x hb hx => hne b x hb (fun g z => ?_)) (fun a ha => hput_ne (by omega)) (Nat.le_refl _), hv2, a3.st ⟨fun b x hb hx => hne b x hb (fun g z => ?_), fun b x hb hx => hne b x hb (fun g z => ?_), fun b z h0 zz hb => ⟨h0, zz, hne b _ hb (ob_ar _ _)⟩⟩ kf1 (KD.rf _ D K)⟩, hput_at _ _ _, fun a xs hd => fxl q a xs hd (hq.2.1 a xs hd), hq.2.2⟩
  · subst z
    rcases hx with ⟨c', gs', z1, z2⟩ | ⟨n9, g9, z1⟩
    · exact ar_ne_ob z1
    · simp [ar, ai] at z1
  · subst z
    rcases hx with ⟨c', v, gs', z1, -⟩ | ⟨u1, u2, u3, u4, z1, -⟩ | ⟨t, n9, g9, z1, -⟩
    · exact ar_ne_ob z1
    · exact ar_ne_ob z1
    · simp [ar, ai] at z1
  · subst z
    rcases hx with ⟨gs, z1⟩ | ⟨v, gs, z1, -⟩ | ⟨n9, g9, z1⟩ | ⟨n9, g9, z1⟩ | ⟨gs, z1⟩
    · exact ar_ne_ob z1
    · exact ar_ne_ob z1
    · injection z1 with z1
      injection z1 with z1 _
      exact absurd z1 (by decide)
    · simp [ar, ai] at z1
    · exact ar_ne_ob z1
theorem PX.okN {G : GP} {y0 : HS} {n0 : Nat} {y : HS} {R e X tp op ln : Nat} {ch : Option Nat} {bs : List Nat} {s : PS} {nn : Nat} {D : LM} {K : Nat → Nat} {g : EG} {gA : Nat → List Cn} {d q i : Nat} (h : PX G y0 n0 y R e X tp op ln ch bs s nn D K g gA) (hc : gNR g d q i) : okO G y (some q) := fun v hv => by
  cases hv
  rcases (h.2.2.2.1.2.2.1 d q i hc).1 with ⟨x, mt, -, -, z⟩ | ⟨d', x, cr, arr, r1, r2, g9, -, -, -, z, -⟩
  · exact ⟨11, _, by decide, Or.inl z⟩
  · exact ⟨14, _, by decide, Or.inl z⟩
theorem PX.cell11 {G : GP} {y0 : HS} {n0 : Nat} {y : HS} {R e X tp op ln : Nat} {ch : Option Nat} {bs : List Nat} {s : PS} {nn : Nat} {D : LM} {K : Nat → Nat} {g : EG} {gA : Nat → List Cn} {d q i : Nat} (h : PX G y0 n0 y R e X tp op ln ch bs s nn D K g gA) (hc : gNR g d q i) : ∃ c v fs, y.1 q = some (ob c (v :: fs)) ∧ v ≠ va_rf none := by
  rcases (h.2.2.2.1.2.2.1 d q i hc).1 with ⟨x, mt, -, -, z⟩ | ⟨d', x, cr, arr, r1, r2, g9, -, -, -, z, -⟩
  · exact ⟨11, _, _, z, int_ne⟩
  · exact ⟨14, _, _, z, rf_ne⟩
/-- what a node's method does: p, told in plain words -/
def NSp (G : GP) (y0 : HS) (n0 : Nat) (R e X tp ln : Nat) (bs : List Nat) (tc cq op dd : Nat) (p : PS → Except Nat (Nat × PS)) (w : Nat → (Option Nat → HS → Prop) → (Nat → Nat → HS → Prop) → HS → Prop) : Prop := ∀ (B : Nat) (post : Option Nat → HS → Prop) (xp : Nat → Nat → HS → Prop) (y : HS) (s : PS) (D : LM) (K : Nat → Nat) (g : EG) (gA : Nat → List Cn), NX G y0 n0 R e X tp ln bs tc cq op y s D K g gA → 3 * cnL s ≤ pAt s → (∀ v, p s = .ok v → mu bs v.2 ≤ mu bs s + B) → (∀ f, p s = .error f → 5 * bs.length + 90 ≤ mu bs s + B) →
  (∀ y' q v D' K' g' gA', p s = .ok v → NX G y0 n0 R e X tp ln bs tc cq op y' v.2 D' K' g' gA' → NExt tc (ndL s) y D K g gA y' D' K' g' gA' → (∀ d, dd ≤ d → gNR g' d q v.1) → (∀ n, ndL s ≤ n → n < ndL v.2 → ∃ d, gNR g' d (gNa g' n) n) → post (some q) y') → (∀ f q y', p s = .error f → XF G R ln f n0 y0 6 q y' → xp 6 q y') → w B post xp y
/-- what is known of the parsers within -/
def RnI (bs : List Nat) (r : PS → Except Nat (Nat × PS)) : Prop := (∀ s v, isTok bs s.1 → r s = .ok v → isTok bs v.2.1 ∧ mu bs s ≤ mu bs v.2) ∧ ∀ s v, tkB bs s.1 → ndL s ≤ 40 → r s = .ok v → NG bs s v
def pIf (bs : List Nat) (tc : Nat) (r1 r2 : PS → Except Nat (Nat × PS)) (s : PS) : Except Nat (Nat × PS) := bnd (r1 (nxt bs (sEd s (uNd (pE s) (eNd (pE s) ++ [(-1, 0, 0, 0, tc)]))))) (fun c => bnd (pMustW bs 16 c.2) (fun s2 => bnd (r2 s2) (fun t => bnd (pMustW bs 7 t.2) (fun s3 => bnd (r2 s3) (fun e =>
        .ok ((eNd (pE s)).length, sEd e.2 (uNd (pE e.2) ((eNd (pE e.2)).set (eNd (pE s)).length (-1, c.1, t.1, e.1, tc)))))))))
theorem pIf_dec {bs : List Nat} {tc : Nat} {r1 r2 : PS → Except Nat (Nat × PS)} {s : PS} {v : Nat × PS} (h : pIf bs tc r1 r2 s = .ok v) : ∃ c t u, r1 (nxt bs (sEd s (uNd (pE s) (eNd (pE s) ++ [(-1, 0, 0, 0, tc)])))) = .ok c ∧ isW c.2 16 = true ∧ r2 (nxt bs c.2) = .ok t ∧ isW t.2 7 = true ∧ r2 (nxt bs t.2) = .ok u ∧ v = ((eNd (pE s)).length, sEd u.2 (uNd (pE u.2) ((eNd (pE u.2)).set (eNd (pE s)).length (-1, c.1, t.1, u.1, tc)))) := by
  obtain ⟨c, c1, c2⟩ := bnd_ok h
  obtain ⟨s2, s2a, s2b⟩ := bnd_ok c2
  obtain ⟨rfl, hw1⟩ := mW_ok s2a
  obtain ⟨t, t1, t2⟩ := bnd_ok s2b
  obtain ⟨s3, s3a, s3b⟩ := bnd_ok t2
  obtain ⟨rfl, hw2⟩ := mW_ok s3a
  obtain ⟨u, u1, u2⟩ := bnd_ok s3b
  cases u2
  exact ⟨c, t, u, c1, hw1, t1, hw2, u1, rfl⟩
theorem px_if {G : GP} {y0 : HS} {n0 : Nat} {R e X tp ln B u0 : Nat} {bs : List Nat} {tc cq op dd d : Nat} {r2 : PS → Except Nat (Nat × PS)} {rc : Nat → (Option Nat → HS → Prop) → (Nat → Nat → HS → Prop) → HS → Nat → Prop} {y : HS} {s : PS} {D : LM} {K : Nat → Nat} {g : EG} {gA : Nat → List Cn} {post : Option Nat → HS → Prop} {xp : Nat → Nat → HS → Prop} (hG : GK G) (h : NX G y0 n0 R e X tp ln bs tc cq op y s D K g gA) (hcn : 3 * cnL s ≤ pAt s) (hw : isW s 9 = true) (h40 : ndL s < 40) (hop : op + 1 = 9 - d) (hd : d ≤ 8) (hr2 : RnI bs r2) (hsub : NSp G y0 n0 R e X tp ln bs tc cq (op + 1) dd r2 (fun B post xp y => rc B post xp y R)) (hu0 : u0 = 0) (hBo : ∀ v, pIf bs tc (pCondB bs (pO bs d)) r2 s = .ok v → mu bs v.2 ≤ mu bs s + B) (hBe : ∀ f, pIf bs tc (pCondB bs (pO bs d)) r2 s = .error f → 5 * bs.length + 90 ≤ mu bs s + B)
    (hp : ∀ y' q v D' K' g' gA', pIf bs tc (pCondB bs (pO bs d)) r2 s = .ok v → NX G y0 n0 R e X tp ln bs tc cq op y' v.2 D' K' g' gA' → NExt tc (ndL s) y D K g gA y' D' K' g' gA' → (∀ d, dd + 1 ≤ d → gNR g' d q v.1) → (∀ n, ndL s ≤ n → n < ndL v.2 → ∃ d, gNR g' d (gNa g' n) n) → post (some q) y') (hx : ∀ f q y', pIf bs tc (pCondB bs (pO bs d)) r2 s = .error f → XF G R ln f n0 y0 6 q y' → xp 6 q y') :
    ∃ k25, (u0 + 0) + k25 ≤ B ∧ wp_X6_opens G k25 (fun y23 => ∃ f26, fR y23 R 4 1 f26 ∧ ∃ a27, f26 = some a27 ∧ ∃ f28, fI y23 a27 1 8 f28 ∧ ∃ fs30, y23.1 a27 = some (ob 1 fs30) ∧ 8 < fs30.length ∧ ∀ y29, y29 = hput y23 a27 (ob 1 (fs30.set 8 (.int (f28 + (nI 1))))) → (∃ fs32, rd G y29 R (ob 4 fs32)) ∧ ∃ k33, ((u0 + 0) + k25) + k33 ≤ B ∧ wp_X6_next G k33 (fun y31 => (∃ fs36, rd G y31 R (ob 4 fs36)) ∧ ∃ k37, (((u0 + 0) + k25) + k33) + k37 ≤ B ∧ wp_c4 G d_c4 0 k37 (fun r35 y34 => (∃ fs39, rd G y34 R (ob 4 fs39)) ∧ ∃ k40, ((((u0 + 0) + k25) + k33) + k37) + k40 ≤ B ∧ wp_X6_word G k40 (fun y38 => (∃ fs43, rd G y38 R (ob 4 fs43)) ∧ ∃ k44, (((((u0 + 0) + k25) + k33) + k37) + k40) + k44 ≤ B ∧ rc k44 (fun r42 y41 => (∃ fs46, rd G y41 R (ob 4 fs46)) ∧ ∃ k47, ((((((u0 + 0) + k25) + k33) + k37) + k40) + k44) + k47 ≤ B ∧ wp_X6_word G k47 (fun y45 => (((((((u0 + 0) + k25) + k33) + k37) + k40) + k44) + k47) + 1 ≤ B ∧ ∀ a49, a49 = y45.2 → ∀ y48, y48 = hnew y45 (ob 14 [va_rf none, va_rf none]) → ((((((((u0 + 0) + k25) + k33) + k37) + k40) + k44) + k47) + 1) + (1 + 2 / 20) ≤ B ∧ ∀ a51, a51 = y48.2 → ∀ y50, y50 = hnew y48 (ar 6 2 (fun _ => none)) → ∃ (n52 : Nat) (g53 : Nat → Option Nat), y50.1 a51 = some (ar 6 n52 g53) ∧ vp_in (nI 0) n52 ∧ okO G y50 r42 ∧ ∀ y54, y54 = hput y50 a51 (ar 6 n52 (va_up g53 (nI 0).toNatClampNeg r42)) → (∃ fs57, rd G y54 R (ob 4 fs57)) ∧ ∃ k58, (((((((((u0 + 0) + k25) + k33) + k37) + k40) + k44) + k47) + 1) + (1 + 2 / 20)) + k58 ≤ B ∧ rc k58 (fun r56 y55 => ∃ (n59 : Nat) (g60 : Nat → Option Nat), y55.1 a51 = some (ar 6 n59 g60) ∧ vp_in (nI 1) n59 ∧ okO G y55 r56 ∧ ∀ y61, y61 = hput y55 a51 (ar 6 n59 (va_up g60 (nI 1).toNatClampNeg r56)) → wp_X16_init G (fun y62 => ∃ f63, fI y62 R 4 6 f63 ∧ ∃ fs65, y62.1 R = some (ob 4 fs65) ∧ 6 < fs65.length ∧ ∀ y64, y64 = hput y62 R (ob 4 (fs65.set 6 (.int (f63 - (nI 1))))) → post (some a49) y64) y61 a49 r35 (some a51)) xp y54 R) xp y41 R (some (gK G 7))) xp y38 R) xp y34 R (some (gK G 16))) xp y31 R none) y29 R) xp y R := by
  subst hu0
  obtain ⟨hC, hcl, ⟨hn40, hRn⟩, he1, he2, he3⟩ := id h
  have ht := hC.1.1.2.1
  have hlw := isW_p ht.b hw
  have l9 : (wd 9).length = 2 := by decide
  have l16 : (wd 16).length = 4 := by decide
  have l7 : (wd 7).length = 4 := by decide
  have c0 := cN_mu5 ht
  have m0 := mu_le ht
  have q4 : ∀ p, cN bs p ≤ 4 := fun p => by
    unfold cN
    split
    · omega
    · split <;> omega
  obtain ⟨s1, hs1⟩ : ∃ s1, s1 = nxt bs (sEd s (uNd (pE s) (eNd (pE s) ++ [(-1, 0, 0, 0, tc)]))) := ⟨_, rfl⟩
  have t1 : isTok bs s1.1 := by rw [hs1]; exact ht.nxt
  have mu1 : mu bs s1 = mu bs (nxt bs s) := mu_eq (by rw [hs1]; rfl)
  have at1 : pAt s1 = pAt (nxt bs s) := by rw [hs1]; rfl
  have cn1 : cnL s1 = cnL s := by rw [hs1]; rfl
  have nd1 : ndL s1 = ndL s + 1 := by
    rw [hs1]
    show (eNd (pE s) ++ [_]).length = _
    rw [List.length_append]; rfl
  have row1 : (eNd (pE s1))[(eNd (pE s)).length]? = some (-1, 0, 0, 0, tc) := by
    rw [hs1]
    show (eNd (pE s) ++ [((-1, 0, 0, 0, tc) : Nd)])[(eNd (pE s)).length]? = _
    rw [List.getElem?_append_right (Nat.le_refl _), Nat.sub_self]; rfl
  have hat1 : pAt s + 2 ≤ pAt (nxt bs s) := by
    have z1 := (nxt_b ht.b).2
    omega
  have m1 := mu_le t1
  have hcm : PMu bs (pCondB bs (pO bs d)) := pCondB_mu (pO_mu d)
  have hcg := pCondB_pg (bs := bs) (pO_pg (bs := bs) d)
  have hce := pCondB_ce (bs := bs) (pO_ce (bs := bs) d)
  have e0 : pIf bs tc (pCondB bs (pO bs d)) r2 s = bnd (pCondB bs (pO bs d) s1) (fun c => bnd (pMustW bs 16 c.2) (fun s2 => bnd (r2 s2) (fun t => bnd (pMustW bs 7 t.2) (fun s3 => bnd (r2 s3) (fun e =>
        .ok ((eNd (pE s)).length, sEd e.2 (uNd (pE e.2) ((eNd (pE e.2)).set (eNd (pE s)).length (-1, c.1, t.1, e.1, tc))))))))) := by rw [hs1]; rfl
  have fin : (∃ c t u, pCondB bs (pO bs d) s1 = .ok c ∧ isW c.2 16 = true ∧ r2 (nxt bs c.2) = .ok t ∧ isW t.2 7 = true ∧ r2 (nxt bs t.2) = .ok u ∧ mu bs u.2 ≤ mu bs s + B) ∨ 5 * bs.length + 90 ≤ mu bs s + B := by
    cases hr : pIf bs tc (pCondB bs (pO bs d)) r2 s with
    | error f => exact Or.inr (hBe f hr)
    | ok v =>
      obtain ⟨c, t, u, z1, z2, z3, z4, z5, rfl⟩ := pIf_dec hr
      rw [← hs1] at z1
      have hB9 := hBo _ hr
      exact Or.inl ⟨c, t, u, z1, z2, z3, z4, z5, hB9⟩
  have bc : ∀ c, pCondB bs (pO bs d) s1 = .ok c → mu bs c.2 + 24 ≤ mu bs s + B ∨ 5 * bs.length + 90 ≤ mu bs s + B := by
    intro c hc
    rcases fin with ⟨c', t, u, z1, z2, z3, z4, z5, z6⟩ | z
    · rw [hc] at z1
      cases z1
      have k1 := (hcm _ _ t1 hc).1
      have k2 := mu_nxt k1
      have k3 := isW_p k1.b z2
      have k4 := hr2.1 _ _ k1.nxt z3
      have k5 := mu_nxt k4.1
      have k6 := isW_p k4.1.b z4
      have k7 := hr2.1 _ _ k4.1.nxt z5
      exact Or.inl (by omega)
    · exact Or.inr z
  have bt : ∀ c t, pCondB bs (pO bs d) s1 = .ok c → isW c.2 16 = true → r2 (nxt bs c.2) = .ok t → mu bs t.2 + 12 ≤ mu bs s + B ∨ 5 * bs.length + 90 ≤ mu bs s + B := by
    intro c t hc hw1 ht1
    rcases fin with ⟨c', t', u, z1, z2, z3, z4, z5, z6⟩ | z
    · rw [hc] at z1
      cases z1
      rw [ht1] at z3
      cases z3
      have k1 := (hcm _ _ t1 hc).1
      have k4 := hr2.1 _ _ k1.nxt ht1
      have k5 := mu_nxt k4.1
      have k6 := isW_p k4.1.b z4
      have k7 := hr2.1 _ _ k4.1.nxt z5
      exact Or.inl (by omega)
    · exact Or.inr z
  have bu : ∀ c t u, pCondB bs (pO bs d) s1 = .ok c → isW c.2 16 = true → r2 (nxt bs c.2) = .ok t → isW t.2 7 = true → r2 (nxt bs t.2) = .ok u → mu bs u.2 ≤ mu bs s + B ∨ 5 * bs.length + 90 ≤ mu bs s + B := by
    intro c t u hc hw1 ht1 hw2 hu
    rcases fin with ⟨c', t', u', z1, z2, z3, z4, z5, z6⟩ | z
    · rw [hc] at z1
      cases z1
      rw [ht1] at z3
      cases z3
      rw [hu] at z5
      cases z5
      exact Or.inl z6
    · exact Or.inr z
  have p0 : cN bs (pP s) ≤ B := by
    rcases fin with ⟨c', t, u, z1, z2, z3, z4, z5, z6⟩ | z
    · have k0 := (hcm _ _ t1 z1).2
      rcases bc _ z1 with z | z <;> omega
    · omega
  refine ⟨0, by omega, px_opens hC.1 (by omega) (fun z => absurd z (by omega)) (fun _ y23 P23 Q23 => ?_) (fun z => absurd z (by omega))⟩
  obtain ⟨tk23, cR23⟩ := P23.1.cell
  refine ⟨_, ⟨_, cR23, rfl⟩, e, rfl, px_inc P23 he1 (fun y29 P29 N29 F29 => ?_)⟩
  have P29' : PX G y0 n0 y29 R e X tp (op + 1) ln (some cq) bs (sEd s (uNd (pE s) (eNd (pE s) ++ [(-1, 0, 0, 0, tc)]))) (ndL s + 1) D K g gA := ⟨P29.1.mv rfl P29.1.wf (fun _ _ h _ => h) (fun _ _ => rfl) (Nat.le_refl _), P29.2.1, PE.pend P29.2.2 (show (-1 : Int32) < 0 by decide)⟩
  refine ⟨P29.rdr, cN bs (pP s), by omega, px_nxt P29' (Nat.le_refl _) (fun y31 P31 Q31 _ => ⟨P31.rdr, ?_⟩)⟩
  rw [← hs1] at P31
  have C31 : CX G y0 n0 R e X tp ln bs tc cq (ndL s1) (op + 1) y31 s1 D K g gA := by
    refine ⟨?_, hC.2.1, ?_, ?_, ?_⟩
    · rw [nd1]; exact P31
    · rw [hs1]; exact hC.2.2.1
    · rw [hs1]; exact hC.2.2.2.1
    · rw [hs1]; exact hC.2.2.2.2
  have N31 : Ns y y31 := (Q23.bs.ns.tr N29).tr Q31.bs.ns
  have F31 : KF y D y31 D := ((Q23.kf hC.1.2.1.1).tr F29).tr (Q31.kf P29.2.1.1)
  have X31 : NExt tc (ndL s) y D K g gA y31 D K g gA := ⟨N31, F31, fun _ _ z _ => ⟨z, rfl⟩, fun _ _ _ z => z, fun _ _ _ z => z, fun _ _ _ z => Or.inl z, fun _ _ => rfl, rfl, rfl, fun _ _ => rfl⟩
  have hcn1 : 3 * cnL s1 ≤ pAt s1 := by omega
  have hcond : CSp G y0 n0 R e X tp ln bs tc cq (ndL s1) (op + 1) 40 (pCondB bs (pO bs d)) (fun B post xp y => wp_c4 G d_c4 0 B post xp y R none) := by rw [hop]; exact px_cond hG (by omega)
  cases hc : pCondB bs (pO bs d) s1 with
  | error f =>
    have eE : pIf bs tc (pCondB bs (pO bs d)) r2 s = .error f := by rw [e0, hc]; rfl
    have hB := hBe f eE
    refine ⟨B - cN bs (pP s), by omega, hcond _ _ xp y31 s1 D K g gA C31 hcn1 (fun v hv => ?_) (fun _ _ => by omega) (fun y' q v D' K' g' gA' hv => ?_) (fun f9 q9 y9 hf hF => ?_)⟩
    · rw [hc] at hv; cases hv
    · rw [hc] at hv; cases hv
    · rw [hc] at hf; cases hf; exact hx _ q9 y9 eE hF
  | ok c =>
    obtain ⟨tc1, mc1⟩ := hcm _ _ t1 hc
    obtain ⟨-, gc1, gc2, gc3⟩ := hcg _ _ t1.b hc
    obtain ⟨nd2, ch2, cl2, -, -⟩ := (hce _ _ hc).nd
    have bc1 := bc c hc
    have mcl := mu_le tc1
    have cc := cN_mu5 tc1
    refine ⟨mu bs c.2 - mu bs s1, by rcases bc1 with z | z <;> omega, hcond _ _ xp y31 s1 D K g gA C31 hcn1 (fun v hv => ?_) (fun f hf => ?_) (fun y34 q34 c' D4 K4 g4 A4 hv C34 X34 hC34 => ?_) (fun f9 q9 y9 hf hF => ?_)⟩
    · rw [hc] at hv; cases hv; omega
    · rw [hc] at hf; cases hf
    · rw [hc] at hv
      cases hv
      have e1 : pIf bs tc (pCondB bs (pO bs d)) r2 s = bnd (pMustW bs 16 c.2) (fun s2 => bnd (r2 s2) (fun t => bnd (pMustW bs 7 t.2) (fun s3 => bnd (r2 s3) (fun e =>
        .ok ((eNd (pE s)).length, sEd e.2 (uNd (pE e.2) ((eNd (pE e.2)).set (eNd (pE s)).length (-1, c.1, t.1, e.1, tc)))))))) := by rw [e0, hc]; rfl
      have q4c := q4 (pP c.2)
      refine ⟨C34.1.rdr, cN bs (pP c.2) + 1, by rcases bc1 with z | z <;> omega, px_word hG C34.1 (by decide) (Nat.le_refl _) (fun y38 hm P38 Q38 => ?_) (fun f q9 y9 hf hF => hx _ q9 y9 (by rw [e1, hf]; rfl) hF)⟩
      have hw1 := (mW_ok hm).2
      have lw1 := isW_p tc1.b hw1
      have e2 : pIf bs tc (pCondB bs (pO bs d)) r2 s = bnd (r2 (nxt bs c.2)) (fun t => bnd (pMustW bs 7 t.2) (fun s3 => bnd (r2 s3) (fun e =>
        .ok ((eNd (pE s)).length, sEd e.2 (uNd (pE e.2) ((eNd (pE e.2)).set (eNd (pE s)).length (-1, c.1, t.1, e.1, tc))))))) := by rw [e1, hm]; rfl
      have ndc : ndL (nxt bs c.2) = ndL s + 1 := by show (eNd (pE c.2)).length = _; rw [nd2]; exact nd1
      have gl4 : gLs g4 = gLs g := X34.2.2.2.2.2.2.1
      have NX38 : NX G y0 n0 R e X tp ln bs tc cq (op + 1) y38 (nxt bs c.2) D4 K4 g4 A4 := by
        refine ⟨?_, ?_, ⟨by omega, fun d' r' n' z => by rw [X34.2.2.2.2.1] at z; exact hRn d' r' n' z⟩, he1, by rw [gl4]; exact he2, by rw [gl4]; exact he3⟩
        · have := C34.q P38 rfl
          rw [nd1, ← ndc] at this
          exact this
        · show clOk (pE c.2)
          unfold clOk
          rw [cl2, hs1]
          exact hcl
      have X38 : NExt tc (ndL s) y D K g gA y38 D4 K4 g4 A4 := (X31.tr (Nat.le_refl _) (X34.n (nd0 := ndL s))).tr (Nat.le_refl _) ((CExt.q Q38 C34.1.2.1.1).n (nd0 := ndL s))
      have hatc : pAt c.2 + 4 ≤ pAt (nxt bs c.2) := by
        have z1 := (nxt_b tc1.b).2
        omega
      have hcn2 : 3 * cnL (nxt bs c.2) ≤ pAt (nxt bs c.2) := by
        have : cnL (nxt bs c.2) = cnL c.2 := rfl
        omega
      refine ⟨P38.rdr, ?_⟩
      cases ht1 : r2 (nxt bs c.2) with
      | error f =>
        have eE : pIf bs tc (pCondB bs (pO bs d)) r2 s = .error f := by rw [e2, ht1]; rfl
        have hB := hBe f eE
        have mnl := mu_le tc1.nxt
        refine ⟨B - (mu bs (nxt bs c.2) - mu bs s), by omega, hsub _ _ xp y38 (nxt bs c.2) D4 K4 g4 A4 NX38 hcn2 (fun v hv => ?_) (fun _ _ => by omega) (fun y' q v D' K' g' gA' hv => ?_) (fun f9 q9 y9 hf hF => ?_)⟩
        · rw [ht1] at hv; cases hv
        · rw [ht1] at hv; cases hv
        · rw [ht1] at hf; cases hf; exact hx _ q9 y9 eE hF
      | ok t =>
        obtain ⟨tt1, mt1⟩ := hr2.1 _ _ tc1.nxt ht1
        obtain ⟨-, gt1, gt2, gt3, gt4, gt5, gt6, gt7⟩ := hr2.2 _ _ tc1.nxt.b (by omega) ht1
        have bt1 := bt c t hc hw1 ht1
        have mtl := mu_le tt1
        have ct := cN_mu5 tt1
        have q4t := q4 (pP t.2)
        refine ⟨mu bs t.2 - mu bs (nxt bs c.2), by rcases bt1 with z | z <;> omega, hsub _ _ xp y38 (nxt bs c.2) D4 K4 g4 A4 NX38 hcn2 (fun v hv => ?_) (fun f hf => ?_) (fun y41 q41 t' D5 K5 g5 A5 hv NX41 X41 hN41 cov41 => ?_) (fun f9 q9 y9 hf hF => ?_)⟩
        · rw [ht1] at hv; cases hv; omega
        · rw [ht1] at hf; cases hf
        · rw [ht1] at hv
          cases hv
          have e3 : pIf bs tc (pCondB bs (pO bs d)) r2 s = bnd (pMustW bs 7 t.2) (fun s3 => bnd (r2 s3) (fun e =>
            .ok ((eNd (pE s)).length, sEd e.2 (uNd (pE e.2) ((eNd (pE e.2)).set (eNd (pE s)).length (-1, c.1, t.1, e.1, tc)))))) := by rw [e2, ht1]; rfl
          obtain ⟨C41, cl41, n41, f1, f2, f3⟩ := NX41
          have n41a := n41.1
          refine ⟨C41.1.rdr, cN bs (pP t.2) + 1, by rcases bt1 with z | z <;> omega, px_word hG C41.1 (by decide) (Nat.le_refl _) (fun y45 hm2 P45 Q45 => ?_) (fun f q9 y9 hf hF => hx _ q9 y9 (by rw [e3, hf]; rfl) hF)⟩
          have hw2 := (mW_ok hm2).2
          have lw2 := isW_p tt1.b hw2
          have e4 : pIf bs tc (pCondB bs (pO bs d)) r2 s = bnd (r2 (nxt bs t.2)) (fun e =>
            .ok ((eNd (pE s)).length, sEd e.2 (uNd (pE e.2) ((eNd (pE e.2)).set (eNd (pE s)).length (-1, c.1, t.1, e.1, tc))))) := by rw [e3, hm2]; rfl
          refine ⟨by rcases bt1 with z | z <;> omega, ?_⟩
          rintro a49 rfl y48 hy48
          refine ⟨by rcases bt1 with z | z <;> omega, ?_⟩
          rintro a51 rfl y50 hy50
          have P48 : PX G y0 n0 y48 R e X tp (op + 1) ln (some cq) bs (nxt bs t.2) (ndL t.2) D5 K5 g5 A5 := by rw [hy48]; exact P45.nw
          have P50 : PX G y0 n0 y50 R e X tp (op + 1) ln (some cq) bs (nxt bs t.2) (ndL t.2) D5 K5 g5 A5 := by rw [hy50]; exact P48.nw
          have fx50 : FX y50 D5 y48.2 2 (fun _ => none) := by rw [hy50]; exact P48.2.1.1.fx P48.2.2.2.2.2.1
          have z48 : y48.2 = y45.2 + 1 := by rw [hy48]; rfl
          have z50 : y50.2 = y45.2 + 2 := by rw [hy50, hnew_2]; omega
          have n45 : n0 ≤ y45.2 := P45.1.2.2.2.2
          have X45 : NExt tc (ndL s) y D K g gA y45 D5 K5 g5 A5 := (X38.tr (by omega) X41).tr (Nat.le_refl _) ((CExt.q Q45 C41.1.2.1.1).n (nd0 := ndL s))
          have y45le : y.2 ≤ y45.2 := X45.1.2.2.2.2.2
          have ha49 : y.1 y45.2 = none := hC.1.1.wf.none y45le
          have ha51 : y.1 y48.2 = none := hC.1.1.wf.none (by omega)
          have Q50 : Qs y45 y50 := by
            have z1 : Qs y45 y48 := by rw [hy48]; exact Qs.new P45.1.wf
            have z2 : Qs y48 y50 := by rw [hy50]; exact Qs.new P48.1.wf
            exact z1.tr z2
          have c50 : y50.1 y45.2 = some (ob 14 [va_rf none, va_rf none]) := by rw [hy50, hnew_ne (by omega), hy48, hnew_at]
          have hk0 : (nI 0).toNatClampNeg = 0 := nI_clamp (by omega)
          have hk1 : (nI 1).toNatClampNeg = 1 := nI_clamp (by omega)
          refine ⟨2, _, fx50.1, vp_inN (i := 0) (by omega) (by omega), P50.okN (hN41 dd (Nat.le_refl _)), fun y54 hy54 => ?_⟩
          obtain ⟨P54, fx54⟩ := P50.pa (g' := va_up (fun _ => none) (nI 0).toNatClampNeg (some q41)) fx50 rfl (by omega)
          rw [← hy54] at P54 fx54
          have o54 : ∀ b, b ≠ y48.2 → y54.1 b = y50.1 b := fun b hb => by rw [hy54, hput_ne hb]
          have z54 : y54.2 = y50.2 := by rw [hy54]; rfl
          have c54 : y54.1 y45.2 = some (ob 14 [va_rf none, va_rf none]) := (o54 _ (by omega)).trans c50
          have NX54 : NX G y0 n0 R e X tp ln bs tc cq (op + 1) y54 (nxt bs t.2) D5 K5 g5 A5 := ⟨⟨P54, C41.2⟩, cl41, n41, f1, f2, f3⟩
          have X54 : NExt tc (ndL s) y D K g gA y54 D5 K5 g5 A5 := by
            obtain ⟨x1, x2, x3, x4⟩ := X45
            exact ⟨(x1.tr Q50.bs.ns).pu ha51 o54 (by omega), (x2.tr (Q50.kf P45.2.1.1)).pu ha51 P48.2.1.1.fresh o54, x3, x4⟩
          have hatt : pAt t.2 + 4 ≤ pAt (nxt bs t.2) := by
            have z1 := (nxt_b tt1.b).2
            omega
          have hcn3 : 3 * cnL (nxt bs t.2) ≤ pAt (nxt bs t.2) := by
            have z1 : cnL (nxt bs t.2) = cnL t.2 := rfl
            have z2 : cnL (nxt bs c.2) = cnL c.2 := rfl
            omega
          have ndt : ndL (nxt bs t.2) = ndL t.2 := rfl
          refine ⟨P54.rdr, ?_⟩
          cases hu1 : r2 (nxt bs t.2) with
          | error f =>
            have eE : pIf bs tc (pCondB bs (pO bs d)) r2 s = .error f := by rw [e4, hu1]; rfl
            have hB := hBe f eE
            have mnl := mu_le tt1.nxt
            refine ⟨B - (mu bs (nxt bs t.2) - mu bs s), by omega, hsub _ _ xp y54 (nxt bs t.2) D5 K5 g5 A5 NX54 hcn3 (fun v hv => ?_) (fun _ _ => by omega) (fun y' q v D' K' g' gA' hv => ?_) (fun f9 q9 y9 hf hF => ?_)⟩
            · rw [hu1] at hv; cases hv
            · rw [hu1] at hv; cases hv
            · rw [hu1] at hf; cases hf; exact hx _ q9 y9 eE hF
          | ok u =>
            obtain ⟨tu1, mu1'⟩ := hr2.1 _ _ tt1.nxt hu1
            obtain ⟨-, gu1, gu2, gu3, gu4, gu5, gu6, gu7⟩ := hr2.2 _ _ tt1.nxt.b (by omega) hu1
            have bu1 := bu c t u hc hw1 ht1 hw2 hu1
            have mul := mu_le tu1
            refine ⟨mu bs u.2 - mu bs (nxt bs t.2), by rcases bu1 with z | z <;> omega, hsub _ _ xp y54 (nxt bs t.2) D5 K5 g5 A5 NX54 hcn3 (fun v hv => ?_) (fun f hf => ?_) (fun y55 q55 u' D6 K6 g6 A6 hv NX55 X55 hN55 cov55 => ?_) (fun f9 q9 y9 hf hF => ?_)⟩
            · rw [hu1] at hv; cases hv; omega
            · rw [hu1] at hf; cases hf
            · rw [hu1] at hv
              cases hv
              obtain ⟨C55, cl55, n55, j1, j2, j3⟩ := NX55
              have P55 := C55.1
              have fx55 := X55.2.1 _ _ _ fx54
              have c55 := X55.1.2.2.2.1 _ _ _ (by decide) (by decide) c54
              have XC : NExt tc (ndL s) y D K g gA y55 D6 K6 g6 A6 := X54.tr (by omega) X55
              have D51 : D6 y48.2 = none := by
                cases hd9 : D6 y48.2 with
                | none => rfl
                | some xs =>
                  obtain ⟨fs9, z9⟩ := P55.2.1.1.cell hd9
                  rw [fx55.1] at z9
                  exact absurd (Option.some.inj z9) ar_ne_ob
              have D49 : D6 y45.2 = none := by
                cases hd9 : D6 y45.2 with
                | none => rfl
                | some xs =>
                  obtain ⟨fs9, z9⟩ := P55.2.1.1.cell hd9
                  rw [c55] at z9
                  exact absurd (ob_inj.mp (Option.some.inj z9)).1 (by decide)
              have g1n : va_up (fun _ => none) (nI 0).toNatClampNeg (some q41) 1 = none := by rw [hk0]; simp [va_up]
              refine ⟨2, _, fx55.1, vp_inN (i := 1) (by omega) (by omega), P55.okN (hN55 dd (Nat.le_refl _)), fun y61 hy61 => ?_⟩
              obtain ⟨P61, fx61⟩ := P55.pa (g' := va_up (va_up (fun _ => none) (nI 0).toNatClampNeg (some q41)) (nI 1).toNatClampNeg (some q55)) fx55 g1n (by omega)
              rw [← hy61] at P61 fx61
              have o61 : ∀ b, b ≠ y48.2 → y61.1 b = y55.1 b := fun b hb => by rw [hy61, hput_ne hb]
              have z61 : y61.2 = y55.2 := by rw [hy61]; rfl
              have c61 : y61.1 y45.2 = some (ob 14 [va_rf none, va_rf none]) := (o61 _ (by omega)).trans c55
              refine ⟨_, c61, by show 0 < 2; omega, fun y61a hy61a => ?_⟩
              have c61a : y61a.1 y45.2 = some (ob 14 [va_rf (some q34), va_rf none]) := by rw [hy61a, hput_at]; rfl
              refine ⟨_, c61a, by show 1 < 2; omega, fun y62 hy62 => ?_⟩
              have c62 : y62.1 y45.2 = some (ob 14 [va_rf (some q34), va_rf (some y48.2)]) := by rw [hy62, hput_at]; rfl
              have o62 : ∀ b, b ≠ y45.2 → y62.1 b = y61.1 b := fun b hb => by rw [hy62, hput_ne hb, hy61a, hput_ne hb]
              have z62 : y62.2 = y61.2 := by rw [hy62, hy61a]; rfl
              obtain ⟨P62, F62⟩ := P61.pu c61 (by decide) n45 o62 c62 z62
              have fx62 := F62 _ _ _ fx61
              refine px_close P62 (fun y64 P64 Q64 => ?_)
              have fx64 := Q64.kf P62.2.1.1 _ _ _ fx62
              have c64 := Q64.kO c62 (by decide) (by decide)
              have hil : (eNd (pE s)).length < ndL (nxt bs c.2) := by rw [ndc]; exact Nat.lt_succ_self _
              have hrow : (eNd (pE u.2))[(eNd (pE s)).length]? = some (-1, 0, 0, 0, tc) := by
                rw [gu4 _ (by omega)]
                show (eNd (pE t.2))[(eNd (pE s)).length]? = _
                rw [gt4 _ hil]
                show (eNd (pE c.2))[(eNd (pE s)).length]? = _
                rw [nd2]
                exact row1
              have hni : ∀ d' r', ¬ gNR g6 d' r' (eNd (pE s)).length := fun d' r' z => by
                rcases XC.2.2.2.2.2.1 d' r' _ z with z | z
                · have := (hC.1.2.2.2.1.2.2.1 d' r' _ z).2.2
                  omega
                · -- it lies among those that came
                  rcases X55.2.2.2.2.2.1 d' r' _ (by assumption) with w | w
                  · rcases X41.2.2.2.2.2.1 d' r' _ w with w | w
                    · have w2 : gNR g d' r' (eNd (pE s)).length := by rw [X34.2.2.2.2.1] at w; exact w
                      have := (hC.1.2.2.2.1.2.2.1 d' r' _ w2).2.2
                      omega
                    · omega
                  · omega
              have hna : ∀ d' n', ¬ gNR g6 d' y45.2 n' := fun d' n' z => by
                obtain ⟨c9, v9, fs9, z1, z2⟩ := P55.cell11 z
                rw [c55] at z1
                exact z2 (List.cons.inj (ob_inj.mp (Option.some.inj z1)).2).1.symm
              have hC6 : gCR g6 40 q34 c.1 := X55.2.2.2.1 _ _ _ (X41.2.2.2.1 _ _ _ (hC34 40 (Nat.le_refl _)))
              have pe := PE.choice (tc := tc) (c := c.1) (t := t.1) (u := u.1) P64.2.2 hrow (show (-1 : Int32) < 0 by decide) hni hna c64 fx64 (by rw [hk0, hk1]; simp [va_up]) (by rw [hk0, hk1]; simp [va_up]) hC6 (X55.2.2.2.2.1 _ _ _ (hN41 dd (Nat.le_refl _))) (hN55 dd (Nat.le_refl _))
              have hndv : ndL u.2 = ndL (sEd u.2 (uNd (pE u.2) ((eNd (pE u.2)).set (eNd (pE s)).length (-1, c.1, t.1, u.1, tc)))) := by
                show _ = ((eNd (pE u.2)).set _ _).length
                rw [List.length_set]
              have ev : pIf bs tc (pCondB bs (pO bs d)) r2 s = .ok ((eNd (pE s)).length, sEd u.2 (uNd (pE u.2) ((eNd (pE u.2)).set (eNd (pE s)).length (-1, c.1, t.1, u.1, tc)))) := by rw [e4, hu1]; rfl
              refine hp y64 y45.2 _ D6 K6 (gNd g6 (nNa g6 (eNd (pE s)).length y45.2) (nNR g6 (dd + 1) y45.2 (eNd (pE s)).length)) A6 ev ⟨⟨⟨P64.1.mv rfl P64.1.wf (fun _ _ h _ => h) (fun _ _ => rfl) (Nat.le_refl _), P64.2.1, ?_⟩, C55.2⟩, cl55, ⟨by rw [← hndv]; exact n55.1, fun d' r' n' z => by
                rcases z with z | ⟨-, rfl, -⟩
                · exact n55.2 d' r' n' z
                · exact n45⟩, j1, j2, j3⟩ ?_ (fun d' hd' => Or.inr ⟨hd', rfl, rfl⟩) (fun n hn1 hn2 => ?_)
              · rw [hndv] at pe
                exact pe
              · obtain ⟨x1, x2, x3, x4, x5, x6, x7, x8⟩ := XC
                refine ⟨((x1.pu ha51 o61 (by omega)).pu ha49 o62 (by omega)).tr Q64.bs.ns, ((x2.pu ha51 D51 o61).pu ha49 D49 o62).tr (Q64.kf P62.2.1.1), x3, x4, fun _ _ _ z => Or.inl (x5 _ _ _ z), fun d' r' n z => ?_, fun n hn => ?_, x8⟩
                · rcases z with z | ⟨-, -, rfl⟩
                  · exact x6 d' r' n z
                  · exact Or.inr (Nat.le_refl _)
                · show (if n = (eNd (pE s)).length then y45.2 else gNa g6 n) = gNa g n
                  have hn' : n < (eNd (pE s)).length := hn
                  rw [if_neg (by omega)]
                  exact x7 n hn
              · rw [← hndv] at hn2
                by_cases hni2 : n = (eNd (pE s)).length
                · subst hni2
                  refine ⟨dd + 1, Or.inr ⟨Nat.le_refl _, ?_, rfl⟩⟩
                  show (if (eNd (pE s)).length = (eNd (pE s)).length then y45.2 else _) = y45.2
                  rw [if_pos rfl]
                · have hgn : gNa (gNd g6 (nNa g6 (eNd (pE s)).length y45.2) (nNR g6 (dd + 1) y45.2 (eNd (pE s)).length)) n = gNa g6 n := if_neg hni2
                  rw [hgn]
                  rcases Nat.lt_or_ge n (ndL t.2) with z | z
                  · obtain ⟨d', hd'⟩ := cov41 n (by rw [ndc]; have h9 : (eNd (pE s)).length ≤ n := hn1; show (eNd (pE s)).length + 1 ≤ n; omega) z
                    refine ⟨d', Or.inl ?_⟩
                    rw [X55.2.2.2.2.2.2.1 n z]
                    exact X55.2.2.2.2.1 _ _ _ hd'
                  · obtain ⟨d', hd'⟩ := cov55 n z hn2
                    exact ⟨d', Or.inl hd'⟩
            · rw [hu1] at hf; cases hf
        · rw [ht1] at hf; cases hf
    · rw [hc] at hf; cases hf
