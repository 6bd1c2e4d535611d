/-! The component's reader: the whole text -/
set_option maxRecDepth 100000
theorem xl_init15 {G : GP} {y : HS} {q w : Nat} {v0 v1 v2 v3 v4 v5 v6 : Value} {post : HS → Prop} (hw : WF G y) (hq : y.1 q = some (ob 15 [v0, v1, v2, v3, v4, v5, v6])) (hp : ∀ y' w1 w2 w3 w4 w5, WF G y' → y'.1 q = some (ob 15 [va_rf (some w), w1, w2, w3, w4, w5, v6]) → (∀ a, a ≠ q → y'.1 a = y.1 a) → y'.2 = y.2 → post y') : wp_J16_init_r15 G post y q none (some w) false false := by
  refine ⟨_, hq, by show 0 < 7; omega, fun y1 hy1 => ?_⟩
  have q1 : y1.1 q = some (ob 15 [va_rf (some q), v1, v2, v3, v4, v5, v6]) := by rw [hy1, hput_at]; rfl
  refine ⟨_, q1, by show 1 < 7; omega, fun y3 hy3 => ?_⟩
  have q3 : y3.1 q = some (ob 15 [va_rf (some q), va_rf (gS G 1), v2, v3, v4, v5, v6]) := by rw [hy3, hput_at]; rfl
  refine ⟨_, q3, by show 2 < 7; omega, fun y5 hy5 => ?_⟩
  have q5 : y5.1 q = some (ob 15 [va_rf (some q), va_rf (gS G 1), va_rf (gS G 2), v3, v4, v5, v6]) := by rw [hy5, hput_at]; rfl
  refine ⟨fun _ => ⟨_, q5, by show 1 < 7; omega, fun y8 hy8 => ?_⟩, fun z => (by cases z)⟩
  have q8 : y8.1 q = some (ob 15 [va_rf (some q), va_rf none, va_rf (gS G 2), v3, v4, v5, v6]) := by rw [hy8, hput_at]; rfl
  refine ⟨_, q8, by show 3 < 7; omega, fun y10 hy10 => ?_⟩
  have q10 : y10.1 q = some (ob 15 [va_rf (some q), va_rf none, va_rf (gS G 2), va_rf none, v4, v5, v6]) := by rw [hy10, hput_at]; rfl
  refine ⟨_, q10, by show 0 < 7; omega, fun y12 hy12 => ?_⟩
  have q12 : y12.1 q = some (ob 15 [va_rf (some w), va_rf none, va_rf (gS G 2), va_rf none, v4, v5, v6]) := by rw [hy12, hput_at]; rfl
  refine ⟨fun z => (by cases z), fun _ => ⟨_, q12, by show 2 < 7; omega, fun y15 hy15 => ?_⟩⟩
  have q15 : y15.1 q = some (ob 15 [va_rf (some w), va_rf none, va_rf none, va_rf none, v4, v5, v6]) := by rw [hy15, hput_at]; rfl
  refine hp y15 _ _ _ _ _ ?_ q15 (fun a ha => ?_) ?_
  · rw [hy15]; refine WF.put ?_ q12
    rw [hy12]; refine WF.put ?_ q10
    rw [hy10]; refine WF.put ?_ q8
    rw [hy8]; refine WF.put ?_ q5
    rw [hy5]; refine WF.put ?_ q3
    rw [hy3]; refine WF.put ?_ q1
    rw [hy1]; exact hw.put hq
  · rw [hy15, hput_ne ha, hy12, hput_ne ha, hy10, hput_ne ha, hy8, hput_ne ha, hy5, hput_ne ha, hy3, hput_ne ha, hy1, hput_ne ha]
  · rw [hy15, hy12, hy10, hy8, hy5, hy3, hy1]; rfl
/-- what stands after a refusal -/
def XRf (G : GP) (ln f n0 : Nat) (y0 : HS) (q : Nat) (y : HS) : Prop := WF G y ∧ (∃ w w1 w2 w3 w4 w5, y.1 q = some (ob 15 [va_rf (some w), w1, w2, w3, w4, w5, .int (nI ln)]) ∧ wrX y w f) ∧ OLD y0 n0 y ∧ n0 ≤ y.2
theorem xl_refused {G : GP} {R ln f n0 q : Nat} {y0 y : HS} {post : Nat → HS → Prop} (h : XF G R ln f n0 y0 6 q y) (hp : ∀ y' fs, y'.1 y.2 = some (ob 15 fs) → XRf G ln f n0 y0 y.2 y' → post y.2 y') : ∀ a17, a17 = y.2 → ∀ y16, y16 = hnew y (ob 15 [va_rf none, va_rf none, va_rf none, va_rf none, va_rf none, .int 0, .int 0]) → ∃ f18, fI y16 R 4 7 f18 ∧ wp_X17_init G (fun y19 => post a17 y19) y16 a17 f18 (some q) := by
  obtain ⟨-, hw, ⟨w0, w1, w2, w3, w4, w5, hq⟩, ⟨fs, hR, h7, hl⟩, hold, hn⟩ := h
  rintro a17 rfl y16 hy16
  have lR := hw.lt hR
  have lq := hw.lt hq
  have w16 : WF G y16 := by rw [hy16]; exact hw.new
  have c16 : y16.1 y.2 = some (ob 15 [va_rf none, va_rf none, va_rf none, va_rf none, va_rf none, .int 0, .int 0]) := by rw [hy16, hnew_at]
  have o16 : ∀ a, a ≠ y.2 → y16.1 a = y.1 a := fun a ha => by rw [hy16, hnew_ne ha]
  refine ⟨nI ln, ⟨fs, (o16 R (by omega)).trans hR, h7⟩, xl_init15 w16 c16 (fun y1 u1 u2 u3 u4 u5 k1 k2 k3 k4 => ⟨_, k2, by show 6 < 7; omega, fun y2 hy2 => ?_⟩)⟩
  have c2 : y2.1 y.2 = some (ob 15 [va_rf (some q), u1, u2, u3, u4, u5, .int (nI ln)]) := by rw [hy2, hput_at]; rfl
  have o2 : ∀ a, a ≠ y.2 → y2.1 a = y.1 a := fun a ha => by rw [hy2, hput_ne ha, k3 a ha, o16 a ha]
  have n2 : y2.2 = y.2 + 1 := by rw [hy2, hput_2, k4, hy16]; rfl
  exact hp y2 _ c2 ⟨by rw [hy2]; exact k1.put k2, ⟨q, _, _, _, _, _, c2, w0, w1, w2, w3, w4, w5, (o2 q (by omega)).trans hq⟩, hold.st (fun a ha => o2 a (by omega)), by omega⟩
/-- an edition that was read: its end may begin -/
theorem LXs.en {G : GP} {y0 : HS} {n0 : Nat} {R e X tp ln : Nat} {bs : List Nat} {y : HS} {s : PS} {D : LM} {K : Nat → Nat} {g : EG} {gA : Nat → List Cn} (h : LXs G y0 n0 R e X tp ln bs y s D K g gA) : ENs G n0 y D K e (pE s) g gA (fun _ => false) ([], []) := by
  obtain ⟨⟨op, ch, -, hv, p1, ⟨t1, t2, t3, t4, t5, t6⟩, ⟨k1, k2, k3, k4, k5, k6, k7⟩, p4⟩, -, -, -, -, -, hcov, -, -⟩ := h
  refine ⟨hv, p1, t1, t3, ⟨k1, k2, k3, k4, k5⟩, p4, fun n x hx hl => ?_, fun m n hm hn he => ?_, k6, k7⟩
  · obtain ⟨d, hd⟩ := hcov n (List.getElem?_eq_some_iff.mp hx).1
    exact t6 d _ n x hd hx hl
  · obtain ⟨d, hd⟩ := hcov m hm
    obtain ⟨d', hd'⟩ := hcov n hn
    rw [he] at hd
    exact t5 d d' _ m n hd hd'
/-- an edition that was read whole -/
theorem ENs.ex {G : GP} {n0 : Nat} {y : HS} {D : LM} {K : Nat → Nat} {e : Nat} {E : Ed} {g : EG} {gA : Nat → List Cn} (h : ENs G n0 y D K e E g gA (rch E) (lvs E, lvs E)) (hok : EdOk E) (h40 : (eNd E).length ≤ 40) (h400 : (eCn E).length ≤ 400) : EX G y D D e E g := by
  obtain ⟨h1, ⟨c1, ⟨xs, a1, a2⟩, ⟨ys, b1, b2⟩, c3, c4, c5, c6, c7⟩, h3, h4, -, ⟨p1, p2, p3, p4, p5⟩, h7, h8, h9, h10⟩ := h
  have ds : ∀ l xs, Df K D l = some xs → D l = some xs := fun l xs z => (Df.sub z).1
  refine ⟨⟨c1, ⟨xs, a1, a2⟩, ⟨ys, b1, All2.imp b2 (fun _ _ z => z.pk (PKw.rf y) ds)⟩, c3, c4⟩, ⟨fun d r i z => (h3 d r i z).pk (PKw.rf y) ds (fun _ _ z => z) (fun _ _ _ z => z), h4, h8⟩, p1, ⟨p3, fun k a b => ?_⟩, p2, h9, h10, h7, hok, c7, h40, h400, p4⟩
  obtain ⟨nm, l, la, ll, tr, q1, q2, q3, q4, q5, q6, q7, q8⟩ := p5 k b a
  rcases q8 with ⟨q8, -⟩ | ⟨t, rfl, q8, q9⟩
  · exfalso
    obtain ⟨r, r1, r2⟩ := hok.2.2.1 _ (List.getElem_mem b)
    rw [r1] at q8
    have := congrArg Int32.toInt q8
    rw [nI_toInt (by omega)] at this
    have e2 : (-1 : Int32).toInt = -1 := by decide
    omega
  · exact ⟨l, la, ll, t, some nm, q1, q3.pk (PKw.rf y) ds, q9⟩
theorem px_whole {G : GP} {y0 : HS} {n0 : Nat} {R e X tp B : Nat} {bs : List Nat} {y : HS} {D : LM} {K : Nat → Nat} {g : EG} {gA : Nat → List Cn} {post : Option Nat → HS → Prop} {xp : Nat → Nat → HS → Prop} (hG : GK G) (h9b : bs.length ≤ 900) (hw : WF G y) (hv : V2 G n0 y D) (hpe : PE G y D K e E0 0 g gA) (hR : rdO y R bs.length e X 0 0 none 0 0 0 none) (ht : tpX y X tp bs) (hXR : X ≠ R) (hTR : tp ≠ R) (hold : OLD y0 n0 y) (hnR : n0 ≤ R) (hny : n0 ≤ y.2) (hge : n0 ≤ e ∧ n0 ≤ (gLs g).2.2.2.2.2.1 ∧ n0 ≤ (gLs g).2.2.2.2.2.2) (hNR : ∀ d r n, ¬ gNR g d r n) (hXc : gXc g = []) (hB : 5 * bs.length + 470 ≤ B)
    (hp : ∀ y' D' g' n E, pWhole bs = (n, .ok E) → EX G y' D' D' e E g' → V2 G n0 y' D' → fI y' R 4 7 (nI n) → OLD y0 n0 y' → n0 ≤ y'.2 → post (some e) y') (hx : ∀ f n q y', pWhole bs = (n, .error f) → XRf G n f n0 y0 q y' → xp 15 q y') : wp_X6_whole G B post xp y R := by
  have q4 : ∀ p, cN bs p ≤ 4 := fun p => by
    unfold cN
    split
    · omega
    · split <;> omega
  have q40 := q4 0
  refine ⟨⟨_, Or.inl hR⟩, 4, by omega, xl_next hw hR ht (Nat.zero_le _) hXR hTR q40 (fun y1 tok w1 r1 t1 f1 n1 h1 => ?_)⟩
  have lR := hw.lt hR
  have ht1 : tpX y1 X tp bs := by
    obtain ⟨⟨fs, z1⟩, ⟨gt, z2, z3⟩, z4, z5⟩ := ht
    exact ⟨⟨fs, (f1 X (hw.lt z1) hXR).trans z1⟩, ⟨gt, (f1 tp (hw.lt z2) hTR).trans z2, z3⟩, z4, z5⟩
  have Q1 : Qs y y1 := ⟨fun b x hb => by
    by_cases hbR : b = R
    · subst hbR
      rw [hR] at hb
      cases hb
      exact Or.inr (Or.inl ⟨_, _, rfl, r1⟩)
    · exact Or.inl ((f1 b (hw.lt hb) hbR).trans hb), n1⟩
  have hl0 := lex_b (bs := bs) (Nat.zero_le _)
  have P1 : PX G y0 n0 y1 R e X tp 0 0 none bs (lex bs 0, E0, []) (ndL (lex bs 0, E0, [])) D K g gA := by
    refine ⟨⟨⟨w1, ht1, hXR, hTR, hl0.1, tok, r1, t1, fun q hq h2 => ?_⟩, ⟨0, Nat.zero_le _, rfl⟩, hold.st (fun a ha => f1 a (by omega) (by omega)), hnR, by omega⟩, Q1.v2 hv w1, hpe.st Q1.pks (Q1.kf hv.1).one (KD.rf _ D K)⟩
    have := h1 q hq h2
    omega
  have L1 : LXs G y0 n0 R e X tp 0 bs y1 (lex bs 0, E0, []) D K g gA := by
    refine ⟨⟨0, none, P1⟩, ?_, Nat.zero_le _, hge, fun k c hc => (by cases hc), fun k c hc => (by cases hc), fun n hn => absurd hn (Nat.not_lt_zero _), fun c hc => (by rw [hXc] at hc; cases hc), fun d r n z => absurd z (hNR d r n)⟩
    exact ⟨fun _ => 0, fun i k hk => (by cases hk), fun n x hn => (by cases hn), fun i k hk => (by cases hk), fun i hi => absurd hi (Nat.not_lt_zero _), fun i j k l hk => (by cases hk), fun i hi => absurd hi (Nat.not_lt_zero _), fun m c hc => (by cases hc), fun c hc => (by cases hc), Nat.zero_le _, Nat.zero_le _⟩
  refine ⟨fun n y' u => ∃ s ln fu D' K' g' gA', n = bs.length + 1 - ln ∧ u ≤ mu bs s + 4 ∧ LXs G y0 n0 R e X tp ln bs y' s D' K' g' gA' ∧ fu + ln = bs.length + 1 ∧ ln ≤ pAt s ∧ pLines bs (bs.length + 1) 0 (lex bs 0, E0, []) = pLines bs fu ln s, ⟨_, (lex bs 0, E0, []), 0, bs.length + 1, D, K, g, gA, rfl, by omega, L1, rfl, Nat.zero_le _, rfl⟩, ?_⟩
  rintro n5 y6 u9 ⟨s, ln, fu, D1, K1, g1, A1, rfl, hu, L6, hfu, hln, hpl⟩
  obtain ⟨⟨op, ch, P6⟩, hLI, hcn, hge1, -, htk, hcov, hXn, hRn⟩ := id L6
  have tk6 := P6.1.2.1
  have ml := mu_le tk6
  have hat : pAt s ≤ bs.length := by
    have z1 : pAt s ≤ pP s := tk6.b.1
    have z2 : pP s ≤ bs.length := tk6.b.2.1
    omega
  obtain ⟨fu', rfl⟩ : ∃ f, fu = f + 1 := ⟨fu - 1, by omega⟩
  rw [pLines_step bs fu' ln s] at hpl
  obtain ⟨tk, cR⟩ := P6.1.cell
  refine ⟨by omega, fun y13 u r14 => ∃ q f, r14 = some q ∧ XF G R ln f n0 y0 6 q y13 ∧ pWhole bs = (ln, .error f) ∧ u + 1 ≤ B, ?_, ?_⟩
  · rintro y13 u15 r14 ⟨q, f, rfl, hF, hW, hub⟩
    exact ⟨by omega, hub, xl_refused (post := fun a y' => ∃ fs20, y'.1 a = some (ob 15 fs20) ∧ xp 15 a y') hF (fun y' fs z1 z2 => ⟨fs, z1, hx f ln _ y' hW z2⟩)⟩
  refine ⟨_, ⟨_, cR, rfl⟩, fun hk => ?_, fun hk => ?_⟩
  · have hk0 : pK s = 0 := Classical.byContradiction fun z => hk (if_neg z)
    rw [if_pos hk0] at hpl
    have hWd : pWhole bs = if (eCh (pE s)).all (fun c => decide (0 ≤ c.2.2)) = true then (ln, .ok (pE s)) else (ln, er s 5) := by
      unfold pWhole
      rw [hpl]
    have E6 := L6.en
    have h6 : (eCh (pE s)).length ≤ 6 := E6.2.2.2.2.2.1.2.2.2.1
    have hch := E6.2.2.2.2.2.1.1
    have hxl := E6.2.2.2.2.2.1.2.2.1
    obtain ⟨fsC, hfC⟩ := E6.1.1.cell hch
    refine ⟨fun n y' u x => ∃ j, j ≤ (eCh (pE s)).length ∧ n = (eCh (pE s)).length - j ∧ x = nI j ∧ u = u9 ∧ y' = y6 ∧ ∀ j' (h : j' < (eCh (pE s)).length), j' < j → 0 ≤ (eCh (pE s))[j'].2.2, ⟨_, 0, Nat.zero_le _, rfl, rfl, rfl, rfl, fun j' _ z => absurd z (Nat.not_lt_zero _)⟩, ?_⟩
    rintro n24 y25 u29 x28 ⟨j, hj, rfl, rfl, rfl, rfl, hjt⟩
    refine ⟨by omega, _, ⟨_, cR, rfl⟩, e, rfl, _, ⟨_, E6.2.1.1, rfl⟩, _, rfl, ⟨fsC, Or.inl hfC⟩, E6.1.1.size hch ?_⟩
    rw [List.length_map, hxl]
    refine ⟨fun hge2 => ?_, fun hlt2 => ?_⟩
    · have hjl := nle_of (by omega) hj hge2
      have hall : ∀ c ∈ eCh (pE s), 0 ≤ c.2.2 := fun c hc => by
        obtain ⟨i, hi, rfl⟩ := List.mem_iff_getElem.mp hc
        exact hjt i hi (by omega)
      have hall2 : (eCh (pE s)).all (fun c => decide (0 ≤ c.2.2)) = true := List.all_eq_true.mpr (fun c hc => decide_eq_true (hall c hc))
      rw [if_pos hall2] at hWd
      obtain ⟨hok, ct, hct⟩ := hLI.done hall
      have h40 : (eNd (pE s)).length ≤ 40 := by obtain ⟨ct, -, -, -, -, -, -, -, -, -, z⟩ := hLI; exact z
      have h400 : (eCn (pE s)).length ≤ 400 := by
        have : 3 * (eCn (pE s)).length ≤ pAt s := hcn
        omega
      refine ⟨_, ⟨_, cR, rfl⟩, e, rfl, ⟨_, Or.inl E6.2.1.1⟩, 450, by omega, sp_ends hG E6 P6.1.2.2.2.2 hok hct h400 h40 (fun n hn => ?_) (fun k hk2 => htk k _ (List.getElem?_eq_getElem hk2) (hall _ (List.getElem_mem hk2))) (Nat.le_refl _) (fun y41 D4 K4 E41 F41 n41 => ?_)⟩
      · obtain ⟨d, hd⟩ := hcov n hn
        exact hRn d _ n hd
      · have cR41 := F41.2 _ _ cR
        have := P6.1.2.2.2.2
        exact ⟨_, ⟨_, cR41, rfl⟩, hp y41 D4 g1 ln (pE s) hWd (E41.ex hok h40 h400) E41.1 ⟨_, cR41, rfl⟩ (P6.1.2.2.1.st F41.1) (by omega)⟩
    · have hj2 := nlt_of (by omega) hj hlt2
      refine ⟨fun y47 u50 b48 r49 => y47 = y25 ∧ u50 = u29 ∧ r49 = some R ∧ b48 = decide (0 ≤ (eCh (pE s))[j].2.2), ?_, ?_⟩
      · rintro y47 u50 b48 r49 ⟨rfl, rfl, rfl, rfl⟩
        by_cases hc0 : 0 ≤ (eCh (pE s))[j].2.2
        · rw [decide_eq_true hc0]
          refine ⟨by omega, R, rfl, P6.rdr, 0, by omega, xp_must P6.1 (fun hb => by cases hb) (fun _ => ⟨(eCh (pE s)).length - (j + 1), by omega, j + 1, by omega, rfl, nI_add j 1, rfl, rfl, fun j' h' hl' => ?_⟩) (fun hb => by cases hb)⟩
          by_cases hjj : j' = j
          · subst hjj; exact hc0
          · exact hjt j' h' (by omega)
        · rw [decide_eq_false hc0]
          refine ⟨by omega, R, rfl, P6.rdr, 1, by omega, xp_must P6.1 (fun _ => Nat.le_refl _) (fun hb => by cases hb) (fun hb q y' hF => ?_)⟩
          have hall2 : ¬ (eCh (pE s)).all (fun c => decide (0 ≤ c.2.2)) = true := fun z => by
            exact hc0 (of_decide_eq_true (List.all_eq_true.mp z _ (List.getElem_mem hj2)))
          rw [if_neg hall2] at hWd
          exact ⟨rfl, q, _, rfl, hF, hWd, by omega⟩
      · obtain ⟨cq, nm, l, la, ll, tr, xs, g1', g2, -, -, -, gtr, -⟩ := E6.chap hj2
        have hjx : j < (gXc g1).length := by rw [hxl]; exact hj2
        refine ⟨_, ⟨_, cR, rfl⟩, e, rfl, _, ⟨_, E6.2.1.1, rfl⟩, _, rfl, ⟨fsC, Or.inl hfC⟩, E6.1.1.get hch (i := j) (by rw [List.length_map]; exact hjx) ?_⟩
        rw [List.getElem_map]
        rw [List.getElem?_eq_getElem hjx] at g1'
        have ecq := Option.some.inj g1'
        rw [ecq]
        refine ⟨fun z hz => (by cases hz; exact ⟨_, Or.inl g2⟩), cq, rfl, _, ⟨_, g2, rfl⟩, fun hz => ⟨rfl, rfl, rfl, ?_⟩, fun a69 hz => ⟨rfl, rfl, rfl, ?_⟩⟩
        · rcases gtr with ⟨z1, z2⟩ | ⟨t, rfl, z1, z2⟩
          · rw [z1]; rfl
          · cases hz
        · rcases gtr with ⟨z1, rfl⟩ | ⟨t, rfl, z1, z2⟩
          · cases hz
          · exact (decide_eq_true z1).symm
  · have hk0 : pK s ≠ 0 := fun z => by rw [if_pos z] at hk; exact absurd hk (by decide)
    rw [if_neg hk0] at hpl
    cases hL : pLine bs s with
    | error f =>
      rw [hL] at hpl
      have hWd : pWhole bs = (ln, .error f) := by
        unfold pWhole
        rw [hpl]
      refine ⟨P6.rdr, 5 * bs.length + 100 - mu bs s, by omega, px_line hG h9b L6 hk0 (fun q hq => ?_) (fun f9 _ => by omega) (fun y' q D' K' g' gA' hq => ?_) (fun f9 q9 y9 hf hF => ?_)⟩
      · rw [hL] at hq; cases hq
      · rw [hL] at hq; cases hq
      · rw [hL] at hf
        cases hf
        exact ⟨rfl, q9, f, rfl, hF, hWd, by omega⟩
    | ok q =>
      rw [hL] at hpl
      have hpl' : pLines bs (bs.length + 1) 0 (lex bs 0, E0, []) = pLines bs fu' (ln + 1) q := hpl
      have hL2 := hL
      unfold pLine at hL2
      obtain ⟨v, v1, v2⟩ := bnd_ok hL2
      obtain ⟨m1, m2⟩ := pKind_mu tk6 v1
      have h40 : ndL s ≤ 40 := by obtain ⟨ct, -, -, -, -, -, -, -, -, -, z⟩ := hLI; exact z
      obtain ⟨l1, l2, -⟩ := pKind_lg tk6.b h40 hk0 v1
      have hqv : q = nxt bs v := (mS_ok v2).1
      have m7 : pP v ≤ bs.length := m1.b.2.1
      have m3 := mu_nxt m1
      have m4 := (nxt_b m1.b).2
      have m5 : pAt v ≤ pP v := m1.b.1
      have m6 := mu_le m1.nxt
      rw [← hqv] at m3 m4 m6
      refine ⟨P6.rdr, mu bs q - mu bs s, by omega, px_line hG h9b L6 hk0 (fun q' hq => ?_) (fun f9 hf => ?_) (fun y7 q' D' K' g' gA' hq L7 => ?_) (fun f9 q9 y9 hf hF => ?_)⟩
      · rw [hL] at hq; cases hq; omega
      · rw [hL] at hf; cases hf
      · rw [hL] at hq
        cases hq
        obtain ⟨⟨op7, ch7, P7⟩, hR7⟩ := L7
        obtain ⟨tk7, cR7⟩ := P7.1.cell
        refine ⟨_, ⟨_, cR7, rfl⟩, _, cR7, by simp, fun y8 hy8 => ?_⟩
        have e8 : y8 = hput y7 R (ob 4 [.int (nI bs.length), va_rf (some e), .int (nI (pP q)), .int (nI (pAt q)), va_rf tk7, .int (if pK q = 0 then 1 else 0), .int (nI op7), .int (nI (ln + 1)), va_rf ch7, va_rf (some X)]) := by
          rw [hy8, nI_add]; rfl
        have Q8 : Qs y7 y8 := by rw [e8]; exact Qs.put4 cR7
        have P8 : PX G y0 n0 y8 R e X tp op7 (ln + 1) ch7 bs q (ndL q) D' K' g' gA' := P7.q (by rw [e8]; exact P7.1.wr cR7) rfl Q8
        exact ⟨bs.length + 1 - (ln + 1), by omega, q, ln + 1, fu', D', K', g', gA', rfl, by omega, ⟨⟨op7, ch7, P8⟩, hR7⟩, by omega, by omega, hpl'⟩
      · rw [hL] at hf; cases hf
