/-! The component's reader: conditions, joined -/
set_option maxRecDepth 100000
/-- what a condition's method does: p, told in plain words -/
def CSp (G : GP) (y0 : HS) (n0 : Nat) (R e X tp ln : Nat) (bs : List Nat) (tc cq nn op dd : Nat) (p : PS → Except Nat (Nat × PS)) (w : Nat → (Option Nat → HS → Prop) → (Nat → Nat → HS → Prop) → HS → Prop) : Prop := ∀ (B : Nat) (post : Option Nat → HS → Prop) (xp : Nat → Nat → HS → Prop) (y : HS) (s : PS) (D : LM) (K : Nat → Nat) (g : EG) (gA : Nat → List Cn), CX G y0 n0 R e X tp ln bs tc cq nn op y s D K g gA → 3 * cnL s ≤ pAt s → (∀ v, p s = .ok v → mu bs v.2 ≤ mu bs s + B + 6) → (∀ f, p s = .error f → 5 * bs.length + 80 ≤ mu bs s + B) →
  (∀ y' q v D' K' g' gA', p s = .ok v → CX G y0 n0 R e X tp ln bs tc cq nn op y' v.2 D' K' g' gA' → CExt tc y D K g gA y' D' K' g' gA' → (∀ d, dd ≤ d → gCR g' d q v.1) → post (some q) y') → (∀ f q y', p s = .error f → XF G R ln f n0 y0 6 q y' → xp 6 q y') → w B post xp y
/-- what is read forward -/
def PMu (bs : List Nat) (p : PS → Except Nat (Nat × PS)) : Prop := ∀ s v, isTok bs s.1 → p s = .ok v → isTok bs v.2.1 ∧ mu bs s + 15 ≤ mu bs v.2
theorem px_sign {G : GP} {y0 : HS} {n0 : Nat} {y : HS} {R e X tp op ln B c : Nat} {ch : Option Nat} {bs : List Nat} {s : PS} {nn : Nat} {D : LM} {K : Nat → Nat} {g : EG} {gA : Nat → List Cn} {post : HS → Prop} {xp : Nat → Nat → HS → Prop} (h : PX G y0 n0 y R e X tp op ln ch bs s nn D K g gA) (hc : c < 128) (hB : cN bs (pP s) + 1 ≤ B) (hp : ∀ y', pMustS bs c s = .ok (nxt bs s) → PX G y0 n0 y' R e X tp op ln ch bs (nxt bs s) nn D K g gA → Qs y y' → post y') (hx : ∀ f q y', pMustS bs c s = .error f → XF G R ln f n0 y0 6 q y' → xp 6 q y') : wp_X6_sign G B post xp y R (nI c) :=
  xp_sign h.1 hc hB (fun y' e1 X1 F1 => hp y' e1 (h.q X1 rfl (h.1.qfrr X1 F1)) (h.1.qfrr X1 F1)) hx
theorem px_word {G : GP} {y0 : HS} {n0 : Nat} {y : HS} {R e X tp op ln B k : Nat} {ch : Option Nat} {bs : List Nat} {s : PS} {nn : Nat} {D : LM} {K : Nat → Nat} {g : EG} {gA : Nat → List Cn} {post : HS → Prop} {xp : Nat → Nat → HS → Prop} (hG : GK G) (h : PX G y0 n0 y R e X tp op ln ch bs s nn D K g gA) (hk : k < 20) (hB : cN bs (pP s) + 1 ≤ B) (hp : ∀ y', pMustW bs k s = .ok (nxt bs s) → PX G y0 n0 y' R e X tp op ln ch bs (nxt bs s) nn D K g gA → Qs y y' → post y') (hx : ∀ f q y', pMustW bs k s = .error f → XF G R ln f n0 y0 6 q y' → xp 6 q y') : wp_X6_word G B post xp y R (some (gK G k)) :=
  xp_word hG h.1 hk hB (fun y' e1 X1 F1 => hp y' e1 (h.q X1 rfl (h.1.qfrr X1 F1)) (h.1.qfrr X1 F1)) hx
theorem px_jinit {G : GP} {y0 : HS} {n0 : Nat} {y yo : HS} {R e X tp op ln B a q : Nat} {ch p : Option Nat} {bs : List Nat} {s : PS} {nn : Nat} {D : LM} {K : Nat → Nat} {g : EG} {gA : Nat → List Cn} {post : HS → Prop} (h : PX G y0 n0 y R e X tp op ln ch bs s nn D K g gA) (hq : y.1 a = some (ob 12 [va_rf none, va_rf none])) (hn : n0 ≤ a) (hr : okO G y (some q)) (hB : 2 ≤ B) (hb : Bs yo y) (ha : yo.1 a = none)
    (hp : ∀ y', PX G y0 n0 y' R e X tp op ln ch bs s nn (va_up D y.2 (some [some q])) (lb K y.2 100) g gA → y'.1 a = some (ob 12 [va_rf p, va_rf (some y.2)]) → D y.2 = none → Bs yo y' → KF y D y' (va_up D y.2 (some [some q])) → post y') : wp_X14_init G B post y a p (some q) := by
  have la := h.1.wf.lt hq
  refine ⟨by omega, ?_⟩
  rintro a2 rfl y1 hy1
  have P1 : PX G y0 n0 y1 R e X tp op ln ch bs s nn D K g gA := by rw [hy1]; exact h.nw
  have n1 : n0 ≤ y.2 := h.1.2.2.2.2
  have f1 : D y.2 = none := h.2.1.1.fresh
  have Q1 : Qs y y1 := by rw [hy1]; exact Qs.new h.1.wf
  have q1 : y1.1 a = some (ob 12 [va_rf none, va_rf none]) := by rw [hy1, hnew_ne (by omega)]; exact hq
  obtain ⟨h1, h2, h3⟩ := P1
  refine h2.init f1 n1 (by rw [hy1, hnew_at]) (fun y3 v3 o3 z3 kp3 c3 k3 => ?_)
  have P3 : PX G y0 n0 y3 R e X tp op ln ch bs s nn (va_up D y.2 (some [])) (lb K y.2 100) g gA := ⟨h1.kp rfl v3.1.1 kp3 (fun a ha => o3 a (by omega)) (by omega), v3, h3.st kp3.pks k3.one (KD.new f1)⟩
  have q3 : y3.1 a = some (ob 12 [va_rf none, va_rf none]) := (o3 a (by omega)).trans q1
  have B3 : Bs yo y3 := (hb.tr Q1.bs).tr (kp3.bs c3 (by omega))
  refine ⟨_, q3, by show 1 < 2; omega, fun y4 hy4 => ?_⟩
  have q4 : y4.1 a = some (ob 12 [va_rf none, va_rf (some y.2)]) := by rw [hy4, hput_at]; rfl
  refine ⟨_, q4, by show 0 < 2; omega, fun y6 hy6 => ?_⟩
  have q6 : y6.1 a = some (ob 12 [va_rf p, va_rf (some y.2)]) := by rw [hy6, hput_at]; rfl
  have f6 : ∀ b, b ≠ a → y6.1 b = y3.1 b := fun b hb => by rw [hy6, hput_ne hb, hy4, hput_ne hb]
  have z6 : y6.2 = y3.2 := by rw [hy6, hy4]; rfl
  obtain ⟨P6, k6⟩ := P3.pu q3 (by decide) hn f6 q6 z6
  have B6 := B3.pu ha f6 (by omega)
  have hT : va_up D y.2 (some []) y.2 = some [] := up_at _ _ _
  obtain ⟨fsT, hfT⟩ := P6.2.1.1.cell hT
  have hr6 : okO G y6 (some q) := ((hr.cls Q1.cls).cls c3).cls (fun b c' gs hb => by
    by_cases e : b = a
    · subst e
      rw [q3] at hb
      obtain ⟨rfl, rfl⟩ := ob_inj.mp (Option.some.inj hb)
      exact ⟨_, q6⟩
    · exact ⟨gs, by rw [f6 b e]; exact hb⟩)
  refine ⟨_, ⟨_, q6, rfl⟩, y.2, rfl, ⟨fsT, Or.inl hfT⟩, 1, by omega, px_add P6 hT (by rw [lb_at]; omega) (by decide) hr6 (by decide) (fun y10 P10 K10 C10 F10 n10 => ?_)⟩
  rw [up_up] at P10 F10
  exact hp y10 P10 (K10 _ _ q6 rfl) f1 (B6.tr (K10.bs C10 n10)) ((((Q1.kf h.2.1.1).tr k3).tr k6).tr F10)
theorem CS.ok {G : GP} {y : HS} {D : LM} {cs : List Cn} {CR : Nat → Nat → Nat → Prop} {d r i : Nat} (h : CS G y D cs CR d r i) : okO G y (some r) := fun v hv => by
  cases hv
  rcases h with ⟨x, -, w, sp, sg, nb, h1, -⟩ | ⟨d', l, p, x, h0, h1, -⟩ | ⟨d', l, w, ps, p0, rest, h0, hw, h1, -⟩
  · exact ⟨13, _, by decide, Or.inl h1⟩
  · exact ⟨12, _, by decide, Or.inl h1⟩
  · exact ⟨12, _, by decide, Or.inl h1⟩
theorem PX.okC {G : GP} {y0 : HS} {n0 : Nat} {y : HS} {R e X tp op ln : Nat} {ch : Option Nat} {bs : List Nat} {s : PS} {nn : Nat} {D : LM} {K : Nat → Nat} {g : EG} {gA : Nat → List Cn} {d q i : Nat} (h : PX G y0 n0 y R e X tp op ln ch bs s nn D K g gA) (hc : gCR g d q i) : okO G y (some q) := (h.2.2.2.1.1 d q i hc).ok
/-- a list that was under way is finished -/
theorem PX.rel {G : GP} {y0 : HS} {n0 : Nat} {y : HS} {R e X tp op ln T u : Nat} {ch : Option Nat} {bs : List Nat} {s : PS} {nn : Nat} {D : LM} {K : Nat → Nat} {g : EG} {gA : Nat → List Cn} (h : PX G y0 n0 y R e X tp op ln ch bs s nn D K g gA) (hT : 100 ≤ K T) : PX G y0 n0 y R e X tp op ln ch bs s nn D (lb K T u) g gA := ⟨h.1, h.2.1, h.2.2.st (PKs.rf y) (KF.rf y D).one (KD.rel hT)⟩
theorem CX.len {G : GP} {y0 : HS} {n0 : Nat} {R e X tp ln : Nat} {bs : List Nat} {tc cq nn op : Nat} {y : HS} {s : PS} {D : LM} {K : Nat → Nat} {g : EG} {gA : Nat → List Cn} (h : CX G y0 n0 R e X tp ln bs tc cq nn op y s D K g gA) : bs.length ≤ 900 ∧ pAt s ≤ bs.length := by
  obtain ⟨⟨⟨-, t, -, -, -, -, -⟩, ht, -⟩, -⟩ := h.1
  have h1 : pAt s ≤ pP s := ht.b.1
  have h2 : pP s ≤ bs.length := ht.b.2.1
  exact ⟨t.2.2.1, by omega⟩
/-- all of some, one of some -/
theorem px_join {G : GP} {y0 : HS} {n0 : Nat} {R e X tp ln : Nat} {bs : List Nat} {tc cq nn op dd : Nat} {p : PS → Except Nat (Nat × PS)} {rc : Nat → Nat → (Option Nat → HS → Prop) → (Nat → Nat → HS → Prop) → HS → Nat → (Option Nat) → Prop} {w : Nat} (hw1 : w ≤ 1) (hG : GK G) (hsub : CSp G y0 n0 R e X tp ln bs tc cq nn op dd p (fun B post xp y => (w = 1 → rc 2 B post xp y R none) ∧ (w = 0 → rc 1 B post xp y R (some (gK G 1))))) (hmu0 : PMu bs p) (hcg : ∀ s q, tkB bs s.1 → p s = .ok q → CG bs s q) (hce : ∀ s q, p s = .ok q → CE s q.2) : CSp G y0 n0 R e X tp ln bs tc cq nn op (dd + 1) (pJoin bs (wi w) w p) (fun B post xp y => wb_X6_joined G rc B post xp y R (some (gK G (wi w)))) := by
  intro B post xp y s D K g gA h hcn hBo hBe hp hx
  have hmu : ∀ s v, isTok bs s.1 → p s = .ok v → isTok bs v.2.1 ∧ mu bs s + 15 ≤ mu bs v.2 ∧ CG bs s v ∧ CE s v.2 := fun s v ht h => ⟨(hmu0 s v ht h).1, (hmu0 s v ht h).2, hcg s v ht.b h, hce s v h⟩
  have ht := h.1.1.2.1
  obtain ⟨h900, hat⟩ := h.len
  have hwi : wi w < 20 := wi_lt w
  have hwl : 2 ≤ (wd (wi w)).length := by
    rcases (by omega : w = 0 ∨ w = 1) with rfl | rfl <;> decide
  have e0 : pJoin bs (wi w) w p s = bnd (p s) (fun q => pChain bs (wi w) w p (bs.length + 1) q.1 q.2) := rfl
  -- what is to come is dearer
  have bud : ∀ (f c : Nat) (s2 : PS), isTok bs s2.1 → pJoin bs (wi w) w p s = pChain bs (wi w) w p f c s2 → mu bs s2 ≤ mu bs s + B + 6 ∨ 5 * bs.length + 80 ≤ mu bs s + B := by
    intro f c s2 t2 e2
    cases hr : pJoin bs (wi w) w p s with
    | error x => exact Or.inr (hBe x hr)
    | ok v =>
      refine Or.inl ?_
      have hB := hBo v hr
      have key : ∀ (f c : Nat) (s2 : PS), isTok bs s2.1 → pChain bs (wi w) w p f c s2 = .ok v → mu bs s2 ≤ mu bs v.2 := by
        intro f
        induction f with
        | zero => intro c s2 t2 z; cases z
        | succ f ih =>
          intro c s2 t2 z
          have z' : (if isW s2 (wi w) = true then bnd (p (nxt bs s2)) (fun q => pChain bs (wi w) w p f (nwC q.2 (w, nI c, nI q.1, 0)).1 (nwC q.2 (w, nI c, nI q.1, 0)).2) else .ok (c, s2)) = Except.ok v := z
          split at z'
          · obtain ⟨q, q1, q2⟩ := bnd_ok z'
            obtain ⟨a1, a2, -⟩ := hmu _ _ t2.nxt q1
            have a3 := ih _ _ (show isTok bs (nwC q.2 (w, nI c, nI q.1, 0)).2.1 from a1) q2
            have a4 : mu bs (nwC q.2 (w, nI c, nI q.1, 0)).2 = mu bs q.2 := mu_eq rfl
            have a5 := mu_nxt t2
            omega
          · cases z'
            exact Nat.le_refl _
      have := key f c s2 t2 (e2.symm.trans hr)
      omega
  have bud2 : ∀ (f c : Nat) (s2 : PS) (v2 : Nat × PS), isTok bs s2.1 → isW s2 (wi w) = true → p (nxt bs s2) = .ok v2 → pJoin bs (wi w) w p s = pChain bs (wi w) w p (f + 1) c s2 → mu bs v2.2 ≤ mu bs s + B + 6 ∨ 5 * bs.length + 80 ≤ mu bs s + B := by
    intro f c s2 v2 t2 hw hv e2
    have e3 : pChain bs (wi w) w p (f + 1) c s2 = pChain bs (wi w) w p f (nwC v2.2 (w, nI c, nI v2.1, 0)).1 (nwC v2.2 (w, nI c, nI v2.1, 0)).2 := by
      show (if isW s2 (wi w) = true then bnd (p (nxt bs s2)) _ else _) = _
      rw [if_pos hw, hv]
      rfl
    have a4 : mu bs (nwC v2.2 (w, nI c, nI v2.1, 0)).2 = mu bs v2.2 := mu_eq rfl
    rw [← a4]
    exact bud f _ _ (show isTok bs (nwC v2.2 (w, nI c, nI v2.1, 0)).2.1 from (hmu _ _ t2.nxt hv).1) (e2.trans e3)
  have bud3 : ∀ (f c : Nat) (s2 : PS), isTok bs s2.1 → isW s2 (wi w) = true → pJoin bs (wi w) w p s = pChain bs (wi w) w p (f + 1) c s2 → mu bs s2 + 6 ≤ mu bs s + B + 6 ∨ 5 * bs.length + 80 ≤ mu bs s + B := by
    intro f c s2 t2 hw e2
    cases hs2 : p (nxt bs s2) with
    | error f' =>
      refine Or.inr (hBe f' ?_)
      rw [e2]
      show (if isW s2 (wi w) = true then bnd (p (nxt bs s2)) _ else _) = _
      rw [if_pos hw, hs2]
      rfl
    | ok v2 =>
      have z1 := (hmu _ _ t2.nxt hs2).2.1
      have z2 := mu_nxt t2
      rcases bud2 _ _ _ v2 t2 hw hs2 e2 with z | z
      · exact Or.inl (by omega)
      · exact Or.inr z
  have srK : srR G y (gK G (wi w)) (wd (wi w)) (whT.getD (wi w) 0) := srR.con hwi
  have sr13 : srR G y (gK G 13) (wd 13) (whT.getD 13 0) := srR.con (by decide)
  refine ⟨fun y3 u6 b4 r5 => b4 = decide (w = 0) ∧ ∃ v q D1 K1 g1 A1, p s = .ok v ∧ r5 = some q ∧ u6 + mu bs s + 6 ≤ mu bs v.2 ∧ CX G y0 n0 R e X tp ln bs tc cq nn op y3 v.2 D1 K1 g1 A1 ∧ CExt tc y D K g gA y3 D1 K1 g1 A1 ∧ ∀ d, dd ≤ d → gCR g1 d q v.1, ?_, gK G (wi w), rfl, ⟨_, srK.choose_spec.1⟩, sp_J5_equals srK sr13 (fun ee => by rw [hG.2.1 _ _ hwi (by decide) ee]) ?_⟩
  · rintro y3 u6 b4 r5 ⟨rfl, v, q, D1, K1, g1, A1, hv, rfl, hu, C3, X3, hC3⟩
    obtain ⟨t1, m1, ⟨cg1a, cg1b, cg1c, cg1d⟩, -⟩ := hmu _ _ ht hv
    have e1 : pJoin bs (wi w) w p s = pChain bs (wi w) w p (bs.length + 1) v.1 v.2 := by rw [e0, hv]; rfl
    have b1 := bud _ _ _ t1 e1
    have m1l := mu_le t1
    refine ⟨by rcases b1 with z | z <;> omega, C3.1.rdr, xl_isWord hG C3.1.1.1 hwi ⟨fun hyes => ?_, fun hno => ?_⟩⟩
    · have n1 := mu_nxt t1
      have lw := isW_p t1.b hyes
      -- there is another part
      have b2 := bud3 _ _ _ t1 hyes e1
      refine ⟨by rcases b2 with z | z <;> omega, ?_⟩
      rintro a12 rfl y11 hy11
      have P11 : PX G y0 n0 y11 R e X tp op ln (some cq) bs v.2 nn D1 K1 g1 A1 := by rw [hy11]; exact C3.1.nw
      have q11 : y11.1 y3.2 = some (ob 12 [va_rf none, va_rf none]) := by rw [hy11, hnew_at]
      have Q11 : Qs y3 y11 := by rw [hy11]; exact Qs.new C3.1.1.wf
      have n3 : n0 ≤ y3.2 := C3.1.1.2.2.2.2
      have ho : y.1 y3.2 = none := h.1.1.wf.none X3.1.2.2.2
      have hok : okO G y11 (some q) := (C3.1.okC (hC3 dd (Nat.le_refl _))).cls Q11.cls
      refine ⟨2, by rcases b2 with z | z <;> omega, px_jinit P11 q11 n3 hok (Nat.le_refl _) (X3.1.tr Q11.bs) ho (fun y13 P13 a13 hT13 B13 F13 => ?_)⟩
      refine ⟨fun n y17 u20 => ∃ (f c : Nat) (s2 : PS) (ps : List Nat) (p0 : Nat) (rest : List Nat) (T : Nat) (D2 : LM) (K2 : Nat → Nat) (g2 : EG) (A2 : Nat → List Cn), n = f ∧ bs.length + 1 ≤ f + pAt s2 ∧ pJoin bs (wi w) w p s = pChain bs (wi w) w p f c s2 ∧ CX G y0 n0 R e X tp ln bs tc cq nn op y17 s2 D2 K2 g2 A2 ∧ CExt tc y D K g gA y17 D2 K2 g2 A2 ∧ y17.1 y3.2 = some (ob 12 [va_rf (some (gK G (wi w))), va_rf (some T)]) ∧ D2 T = some (ps.map some) ∧ 100 ≤ K2 T ∧ D T = none ∧ All2 (gCR g2 dd) ps (p0 :: rest) ∧ isCh (eCn (pE s2)) w p0 rest c ∧ c < cnL s2 ∧ 3 * cnL s2 + 2 ≤ pAt s2 ∧ 2 * ps.length ≤ cnL s2 + 1 ∧ u20 + mu bs s + 6 ≤ mu bs s2 + (if ps.length = 1 then 3 else 0) ∧ (ps.length = 1 → isW s2 (wi w) = true), ?_, ?_⟩
      · refine ⟨bs.length + 1, bs.length + 1, v.1, v.2, [q], v.1, [], y11.2, _, _, g1, A1, rfl, by omega, e1, ⟨P13, C3.2⟩, ?_, a13, up_at _ _ _, by rw [lb_at]; omega, ?_, ?_, rfl, cg1c, by omega, ?_, ?_, fun _ => hyes⟩
        · obtain ⟨x1, x2, x3, x4, x5, x6, x7, x8, x9⟩ := X3
          refine ⟨B13, (x2.tr (Q11.kf C3.1.2.1.1)).tr F13, fun l xs hl hk => ?_, x4, x5, x6, x7, x8, x9⟩
          obtain ⟨z1, z2⟩ := x3 l xs hl hk
          have hne : l ≠ y11.2 := fun ee => by rw [ee, hT13] at z1; cases z1
          rw [up_ne hne, lb_ne hne]
          exact ⟨z1, z2⟩
        · cases hd : D y11.2 with
          | none => rfl
          | some xs =>
            exfalso
            have := h.1.2.1.1.lt hd
            have z1 := X3.1.2.2.2
            have z2 := Q11.2
            omega
        · refine ⟨rfl, fun i h1 h2 => ?_⟩
          have : i = 0 := by simp at h1; omega
          subst this
          exact hC3 dd (Nat.le_refl _)
        · show 2 * 1 ≤ cnL v.2 + 1; omega
        · show u6 + 1 + 2 + mu bs s + 6 ≤ mu bs v.2 + (if 1 = 1 then 3 else 0)
          rw [if_pos rfl]; omega
      · rintro n16 y17 u20 ⟨f, c, s2, ps, p0, rest, T, D2, K2, g2, A2, hnf, hf, e2, C2, X2, a2, hD2, hK2, hDT, A2l, hch, hc, hcn2, hps, hu2, h1w⟩
        have t2 := C2.1.1.2.1
        have m2l := mu_le t2
        have b3 := bud _ _ _ t2 e2
        have hat2 := C2.len.2
        have hus : u20 + mu bs s + 3 ≤ mu bs s2 := by
          split at hu2 <;> omega
        obtain ⟨f, rfl⟩ : ∃ f', f = f' + 1 := ⟨f - 1, by omega⟩
        have hu20 : u20 ≤ B := by
          by_cases h1 : ps.length = 1
          · have b4 := bud3 _ _ _ t2 (h1w h1) e2
            rcases b4 with z | z <;> omega
          · rw [if_neg h1] at hu2
            rcases b3 with z | z <;> omega
        refine ⟨hu20, C2.1.rdr, xl_isWord hG C2.1.1.1 hwi ⟨fun hno => ?_, fun hyes2 => ?_⟩⟩
        · -- the end
          have hl1 : ps.length ≠ 1 := fun z => by rw [h1w z] at hno; cases hno
          have e3 : pChain bs (wi w) w p (f + 1) c s2 = .ok (c, s2) := by
            show (if isW s2 (wi w) = true then _ else _) = _
            rw [if_neg (by rw [hno]; decide)]
          have hev := e2.trans e3
          have P4 : PX G y0 n0 y17 R e X tp op ln (some cq) bs s2 nn D2 (lb K2 T 0) g2 A2 := C2.1.rel hK2
          have hup := C2.1.2.2.2.1.2.1
          have pe := PE.addR (l := []) (q := y3.2) (dm := dd + 1) (i := c) P4.2.2 (fun d hd => by
            obtain ⟨d', rfl⟩ : ∃ d', d = d' + 1 := ⟨d - 1, by omega⟩
            refine Or.inr (Or.inr ⟨d', T, w, ps, p0, rest, rfl, hw1, a2, ?_, All2.imp A2l (fun _ _ z => Or.inl (hup dd d' _ _ (by omega) z)), ?_⟩)
            · rw [Df.at (lb_at _ _ _)]; exact hD2
            · rw [List.append_nil]; exact hch)
          rw [uCn_id] at pe
          refine hp y17 y3.2 (c, s2) D2 (lb K2 T 0) _ A2 hev ⟨⟨P4.1, P4.2.1, pe⟩, C2.2⟩ ?_ (fun d hd => Or.inr ⟨hd, rfl, rfl⟩)
          obtain ⟨x1, x2, x3, x4, x5, x6, x7, x8, x9⟩ := X2
          refine ⟨x1, x2, fun l xs hl hk => ?_, fun _ _ _ z => Or.inl (x4 _ _ _ z), x5, x6, x7, x8, x9⟩
          have hne : l ≠ T := fun ee => by rw [ee, hDT] at hl; cases hl
          rw [lb_ne hne]
          exact x3 l xs hl hk
        · have e3 : pChain bs (wi w) w p (f + 1) c s2 = bnd (p (nxt bs s2)) (fun q => pChain bs (wi w) w p f (nwC q.2 (w, nI c, nI q.1, 0)).1 (nwC q.2 (w, nI c, nI q.1, 0)).2) := by
            show (if isW s2 (wi w) = true then _ else _) = _
            rw [if_pos hyes2]
          have n2 := cN_mu5 t2
          have lw2 := isW_p t2.b hyes2
          have hsub2 : (∃ f', p (nxt bs s2) = .error f' ∧ 5 * bs.length + 80 ≤ mu bs s + B) ∨ (∃ v2, p (nxt bs s2) = .ok v2 ∧ (mu bs v2.2 ≤ mu bs s + B + 6 ∨ 5 * bs.length + 80 ≤ mu bs s + B) ∧ isTok bs v2.2.1 ∧ mu bs (nxt bs s2) + 15 ≤ mu bs v2.2 ∧ CG bs (nxt bs s2) v2 ∧ CE (nxt bs s2) v2.2) := by
            cases hs2 : p (nxt bs s2) with
            | error f' => exact Or.inl ⟨f', rfl, hBe f' (by rw [e2, e3, hs2]; rfl)⟩
            | ok v2 => exact Or.inr ⟨v2, rfl, bud2 _ _ _ v2 t2 hyes2 hs2 e2, hmu _ _ t2.nxt hs2⟩
          have m3l := mu_le t2.nxt
          refine ⟨fun y28 u31 r29 r30 => ∃ v2 q2 D3 K3 g3 A3, p (nxt bs s2) = .ok v2 ∧ r29 = some q2 ∧ r30 = some T ∧ u31 + mu bs s + 6 + gco ps.length ≤ mu bs v2.2 ∧ CX G y0 n0 R e X tp ln bs tc cq nn op y28 v2.2 D3 K3 g3 A3 ∧ CExt tc y17 D2 K2 g2 A2 y28 D3 K3 g3 A3 ∧ ∀ d, dd ≤ d → gCR g3 d q2 v2.1, ?_, C2.1.rdr, cN bs (pP s2), ?_, px_nxt C2.1 (Nat.le_refl _) (fun y38 P38 Q38 _ => ?_)⟩
          · rintro y28 u31 r29 r30 ⟨v2, q2, D3, K3, g3, A3, hv2, rfl, rfl, hu3, C4, X4, hC4⟩
            obtain ⟨t3, m3, ⟨cg3a, cg3b, cg3c, cg3d⟩, ce3⟩ := hmu _ _ t2.nxt hv2
            have e4 : pJoin bs (wi w) w p s = pChain bs (wi w) w p f (nwC v2.2 (w, nI c, nI v2.1, 0)).1 (nwC v2.2 (w, nI c, nI v2.1, 0)).2 := by rw [e2, e3, hv2]; rfl
            have b4 := bud2 _ _ _ v2 t2 hyes2 hv2 e2
            have m4l := mu_le t3
            have hat3 := C4.len.2
            have hatn : pAt s2 + 2 ≤ pAt (nxt bs s2) := by
              have z1 := (nxt_b t2.b).2
              omega
            obtain ⟨hT4, hK4⟩ := X4.2.2.1 T _ hD2 hK2
            obtain ⟨fsT, hfT⟩ := C4.1.2.1.1.cell hT4
            have hlenm : (ps.map some).length = ps.length := List.length_map _
            refine ⟨by rcases b4 with z | z <;> omega, T, rfl, ⟨fsT, Or.inl hfT⟩, gco ps.length, by rcases b4 with z | z <;> omega, px_add C4.1 hT4 (by omega) (by rw [hlenm]; have : cnL s2 ≤ cnL (nxt bs s2) := Nat.le_refl _; omega) (C4.1.okC (hC4 dd (Nat.le_refl _))) (by rw [hlenm]; exact Nat.le_refl _) (fun y33 P33 K33 C33 F33 n33 => ?_)⟩
            have hcnl : cnL (nxt bs s2) = cnL s2 := rfl
            have hrows : eCn (pE (nwC v2.2 (w, nI c, nI v2.1, 0)).2) = eCn (pE v2.2) ++ [(w, nI c, nI v2.1, 0)] := rfl
            have hcnew : cnL (nwC v2.2 (w, nI c, nI v2.1, 0)).2 = cnL v2.2 + 1 := by
              show (eCn (pE v2.2) ++ [_]).length = _
              rw [List.length_append]; rfl
            have hpre : ∀ (j : Nat) (x : Cn), (eCn (pE s2))[j]? = some x → (eCn (pE v2.2))[j]? = some x := fun j x hj => by
              obtain ⟨l9, el⟩ := ce3
              rw [el]
              exact app_row (b := l9) hj
            have hps1 : ps.length = rest.length + 1 := A2l.1
            have e33 : (ps ++ [q2]).length = ps.length + 1 := by rw [List.length_append]; rfl
            refine ⟨f, by omega, f, (nwC v2.2 (w, nI c, nI v2.1, 0)).1, (nwC v2.2 (w, nI c, nI v2.1, 0)).2, ps ++ [q2], p0, rest ++ [v2.1], T, _, K3, g3, A3, rfl, ?_, e4, ⟨⟨P33.1, P33.2.1, P33.2.2.rows [(w, nI c, nI v2.1, 0)]⟩, C4.2⟩, ?_, K33 _ _ (X4.1.2.1 _ _ _ (by decide) (by decide) a2) rfl, ?_, by omega, hDT, ?_, ?_, ?_, ?_, ?_, ?_, ?_⟩
            · show bs.length + 1 ≤ f + pAt v2.2
              omega
            · obtain ⟨x1, x2, x3, x4, x5, x6, x7, x8, x9⟩ := X2
              obtain ⟨z1, z2, z3, z4, z5, z6, z7, z8, z9⟩ := X4
              refine ⟨(x1.tr z1).tr (K33.bs C33 n33), (x2.tr z2).tr F33, fun l xs hl hk => ?_, fun _ _ _ z => z4 _ _ _ (x4 _ _ _ z), z5.trans x5, z6.trans x6, z7.trans x7, z8.trans x8, fun i hi => (z9 i hi).trans (x9 i hi)⟩
              have hne : l ≠ T := fun ee => by rw [ee, hDT] at hl; cases hl
              obtain ⟨r1, r2⟩ := x3 l xs hl hk
              obtain ⟨r3, r4⟩ := z3 l xs r1 (by omega)
              rw [up_ne hne]
              exact ⟨r3, r4.trans r2⟩
            · rw [up_at, List.map_append]; rfl
            · exact All2.snoc (All2.imp A2l (fun _ _ z => X4.2.2.2.1 _ _ _ z)) (hC4 dd (Nat.le_refl _))
            · refine isCh_snoc rest p0 c v2.1 _ (w, nI c, nI v2.1, 0) (isCh_mono (fun j x hj => ?_) rest w p0 c hch) ?_ rfl ?_ ?_
              · rw [hrows]; exact app_row (hpre j x hj)
              · rw [hrows]
                show (eCn (pE v2.2) ++ [(w, nI c, nI v2.1, 0)])[(eCn (pE v2.2)).length]? = _
                rw [List.getElem?_append_right (Nat.le_refl _), Nat.sub_self]; rfl
              · exact nI_clamp (by omega)
              · exact nI_clamp (by omega)
            · rw [hcnew]; exact Nat.lt_succ_self _
            · rw [hcnew]
              show 3 * (cnL v2.2 + 1) + 2 ≤ pAt v2.2
              omega
            · rw [hcnew, e33]; omega
            · rw [e33, if_neg (by omega)]
              have : mu bs (nwC v2.2 (w, nI c, nI v2.1, 0)).2 = mu bs v2.2 := mu_eq rfl
              omega
            · intro z; rw [e33] at z; omega
          · rcases hsub2 with ⟨f', -, z⟩ | ⟨v2, -, z, -, z2, -⟩
            · omega
            · rcases z with z | z <;> omega
          · have q38 := Q38.kO a2 (by decide) (by decide)
            have C38 := C2.q P38 rfl
            have X38 : CExt tc y17 D2 K2 g2 A2 y38 D2 K2 g2 A2 := CExt.q Q38 C2.1.2.1.1
            have hatn : pAt s2 + 2 ≤ pAt (nxt bs s2) := by
              have z1 := (nxt_b t2.b).2
              omega
            have hcn38 : 3 * cnL (nxt bs s2) ≤ pAt (nxt bs s2) := by
              have : cnL (nxt bs s2) = cnL s2 := rfl
              omega
            have hgc : gco ps.length ≤ 12 ∧ (ps.length = 1 → gco ps.length = 0) := by
              unfold gco
              refine ⟨?_, fun z => ?_⟩
              · split
                · omega
                · split <;> omega
              · rw [if_neg (by omega), if_pos (by omega)]
            have S : ∃ k, u20 + cN bs (pP s2) + k ≤ B ∧ ∀ post' : Option Nat → HS → Prop, (∀ y' q v D' K' g' gA', p (nxt bs s2) = .ok v → CX G y0 n0 R e X tp ln bs tc cq nn op y' v.2 D' K' g' gA' → CExt tc y17 D2 K2 g2 A2 y' D' K' g' gA' → (∀ d, dd ≤ d → gCR g' d q v.1) → u20 + cN bs (pP s2) + k + mu bs s + 6 + gco ps.length ≤ mu bs v.2 → post' (some q) y') → ((w = 1 → rc 2 k post' xp y38 R none) ∧ (w = 0 → rc 1 k post' xp y38 R (some (gK G 1)))) := by
              rcases hsub2 with ⟨f', hs2, hB⟩ | ⟨v2, hs2, hB, t3, m3, -⟩
              · refine ⟨B - (u20 + cN bs (pP s2)), by omega, fun post' hp' => hsub _ post' xp y38 (nxt bs s2) D2 K2 g2 A2 C38 hcn38 (fun v hv => ?_) (fun _ _ => by omega) (fun y' q v D' K' g' gA' hv => ?_) (fun f9 q9 y9 hf hF => ?_)⟩
                · rw [hs2] at hv; cases hv
                · rw [hs2] at hv; cases hv
                · rw [hs2] at hf; cases hf
                  exact hx _ q9 y9 (by rw [e2, e3, hs2]; rfl) hF
              · refine ⟨mu bs v2.2 - mu bs (nxt bs s2) - 6, ?_, fun post' hp' => hsub _ post' xp y38 (nxt bs s2) D2 K2 g2 A2 C38 hcn38 (fun v hv => ?_) (fun f9 hf => ?_) (fun y' q v D' K' g' gA' hv C' X' hC' => ?_) (fun f9 q9 y9 hf hF => ?_)⟩
                · have m4l := mu_le t3
                  rcases hB with z | z <;> omega
                · rw [hs2] at hv; cases hv; omega
                · rw [hs2] at hf; cases hf
                · refine hp' y' q v D' K' g' gA' hv C' (X38.tr X') hC' ?_
                  rw [hs2] at hv; cases hv
                  by_cases h1 : ps.length = 1
                  · rw [if_pos h1] at hu2
                    have := hgc.2 h1
                    omega
                  · rw [if_neg h1] at hu2
                    have := hgc.1
                    omega
                · rw [hs2] at hf; cases hf
            obtain ⟨k, hk, S⟩ := S
            refine ⟨_, ⟨_, q38, rfl⟩, fun hb => ⟨P38.rdr, k, hk, (S _ (fun y' q v D' K' g' gA' hv C' X' hC' hu => ⟨v, q, D', K', g', gA', hv, rfl, rfl, hu, C', X', hC'⟩)).1 ?_⟩, fun hb => ⟨P38.rdr, k, hk, (S _ (fun y' q v D' K' g' gA' hv C' X' hC' hu => ⟨v, q, D', K', g', gA', hv, rfl, rfl, hu, C', X', hC'⟩)).2 ?_⟩⟩
            · have := of_decide_eq_false hb; omega
            · exact of_decide_eq_true hb
    · -- one alone
      have e2 : pJoin bs (wi w) w p s = .ok v := by
        rw [e1]
        show (if isW v.2 (wi w) = true then _ else Except.ok (v.1, v.2)) = _
        rw [if_neg (by rw [hno]; decide)]
      exact hp y3 q v D1 K1 g1 A1 e2 C3 X3 (fun d hd => hC3 d (by omega))
  · have S : ∃ k, 0 + k ≤ B ∧ ∀ post' : Option Nat → HS → Prop, (∀ y' q v D' K' g' gA', p s = .ok v → CX G y0 n0 R e X tp ln bs tc cq nn op y' v.2 D' K' g' gA' → CExt tc y D K g gA y' D' K' g' gA' → (∀ d, dd ≤ d → gCR g' d q v.1) → 0 + k + mu bs s + 6 ≤ mu bs v.2 → post' (some q) y') → ((w = 1 → rc 2 k post' xp y R none) ∧ (w = 0 → rc 1 k post' xp y R (some (gK G 1)))) := by
      cases hs : p s with
      | error f =>
        have eE : pJoin bs (wi w) w p s = .error f := by rw [e0, hs]; rfl
        have hB := hBe f eE
        refine ⟨B, by omega, fun post' hp' => hsub _ post' xp y s D K g gA h hcn (fun v hv => ?_) (fun _ _ => hB) (fun y' q v D' K' g' gA' hv => ?_) (fun f9 q9 y9 hf hF => ?_)⟩
        · rw [hs] at hv; cases hv
        · rw [hs] at hv; cases hv
        · rw [hs] at hf; cases hf; exact hx _ q9 y9 eE hF
      | ok v =>
        obtain ⟨t1, m1, -⟩ := hmu _ _ ht hs
        have e1 : pJoin bs (wi w) w p s = pChain bs (wi w) w p (bs.length + 1) v.1 v.2 := by rw [e0, hs]; rfl
        have b1 := bud _ _ _ t1 e1
        have m1l := mu_le t1
        refine ⟨mu bs v.2 - mu bs s - 6, by rcases b1 with z | z <;> omega, fun post' hp' => hsub _ post' xp y s D K g gA h hcn (fun v' hv => ?_) (fun f hf => ?_) (fun y' q v' D' K' g' gA' hv C' X' hC' => hp' y' q v' D' K' g' gA' (by rw [← hs]; exact hv) C' X' hC' ?_) (fun f9 q9 y9 hf hF => ?_)⟩
        · rw [hs] at hv; cases hv; omega
        · rw [hs] at hf; cases hf
        · rw [hs] at hv; cases hv; omega
        · rw [hs] at hf; cases hf
    obtain ⟨k, hk, S⟩ := S
    have hdw : decide (wd (wi w) = wd 13) = decide (w = 0) := by
      rcases (by omega : w = 0 ∨ w = 1) with z | z <;> (rw [z]; decide)
    have hw0 : decide (wd (wi w) = wd 13) = false → w = 1 := fun hb => by
      rw [hdw] at hb
      have := of_decide_eq_false hb
      omega
    have hw00 : decide (wd (wi w) = wd 13) = true → w = 0 := fun hb => by
      rw [hdw] at hb
      exact of_decide_eq_true hb
    exact ⟨fun hb => ⟨h.1.rdr, k, hk, (S _ (fun y' q v D' K' g' gA' hv C' X' hC' hu => ⟨hdw, v, q, D', K', g', gA', hv, rfl, hu, C', X', hC'⟩)).1 (hw0 hb)⟩, fun hb => ⟨h.1.rdr, k, hk, (S _ (fun y' q v D' K' g' gA' hv C' X' hC' hu => ⟨hdw, v, q, D', K', g', gA', hv, rfl, hu, C', X', hC'⟩)).2 (hw00 hb)⟩⟩
