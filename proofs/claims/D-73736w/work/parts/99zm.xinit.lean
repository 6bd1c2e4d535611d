/-! The component's reader: it is made -/
set_option maxRecDepth 100000
theorem V2.put1 {G : GP} {n0 : Nat} {y : HS} {D : LM} {e c : Nat} {fs fs' : List Value} (h : V2 G n0 y D) (hc : y.1 e = some (ob c fs)) (h18 : c ≠ 18) : V2 G n0 (hput y e (ob c fs')) D := h.step (h.1.1.put hc) (fun b x hb hx => by
  rw [hput_ne (fun ee => by
    rw [ee, hc] at hb
    have z := Option.some.inj hb
    rw [← z] at hx
    have z2 : (c == 18) = true := hx
    exact h18 (eq_of_beq z2))]
  exact hb) (Cls.put hc)
theorem V2.putE {G : GP} {n0 : Nat} {y y' : HS} {D : LM} {e c : Nat} {fs fs' : List Value} (h : V2 G n0 y D) (hc : y.1 e = some (ob c fs)) (h18 : c ≠ 18) (hy : y' = hput y e (ob c fs')) : V2 G n0 y' D := by rw [hy]; exact h.put1 hc h18
theorem V2.nw {G : GP} {n0 : Nat} {y : HS} {D : LM} {x : HE} (h : V2 G n0 y D) : V2 G n0 (hnew y x) D := (Qs.new h.1.1).v2 h h.1.1.new
theorem ini_list {G : GP} {n0 : Nat} {y : HS} {D : LM} {e k : Nat} {fs : List Value} {post : HS → Prop} (hv : V2 G n0 y D) (hn : n0 ≤ y.2) (hc : y.1 e = some (ob 1 fs)) (hk : k < fs.length) (hp : ∀ y', V2 G n0 y' (va_up D y.2 (some [])) → y'.1 e = some (ob 1 (fs.set k (va_rf (some y.2)))) → (∀ b, b < y.2 → b ≠ e → y'.1 b = y.1 b) → y'.2 = y.2 + 1 → post y') : ∀ a2, a2 = y.2 → ∀ y1, y1 = hnew y (ob 18 [.int 0, va_rf none, .int 0]) → wp_J2_init G (fun y3 => ∃ fs5, y3.1 e = some (ob 1 fs5) ∧ k < fs5.length ∧ ∀ y4, y4 = hput y3 e (ob 1 (fs5.set k (va_rf (some a2)))) → post y4) y1 a2 := by
  rintro a2 rfl y1 hy1
  have hwf := hv.1.1
  have le := hwf.lt hc
  have v1 : V2 G n0 y1 D := by rw [hy1]; exact hv.nw
  have c1 : y1.1 e = some (ob 1 fs) := by rw [hy1, hnew_ne (by omega)]; exact hc
  refine v1.init hv.1.fresh hn (by rw [hy1, hnew_at]) (fun y3 v3 o3 z3 kp3 c3 k3 => ⟨fs, (o3 e (by omega)).trans c1, hk, fun y4 hy4 => ?_⟩)
  have c3' : y3.1 e = some (ob 1 fs) := (o3 e (by omega)).trans c1
  refine hp y4 (by rw [hy4]; exact v3.put1 c3' (by decide)) (by rw [hy4, hput_at]) (fun b hb hbe => ?_) ?_
  · rw [hy4, hput_ne hbe, o3 b (by omega), hy1, hnew_ne (by omega)]
  · rw [hy4, hput_2, z3, hy1]; rfl
theorem x2_init {G : GP} {n0 : Nat} {y : HS} {D0 : LM} {e B : Nat} {post : HS → Prop} (hv : V2 G n0 y D0) (hn : n0 ≤ y.2) (hc : y.1 e = some (ob 1 [va_rf none, va_rf none, va_rf none, va_rf none, va_rf none, va_rf none, va_rf none, .int 0, .int 0])) (hB : 7 ≤ B) (hp : ∀ y' D K g, V2 G n0 y' D → PE G y' D K e E0 0 g (fun _ => []) → (∀ b, b < y.2 → b ≠ e → y'.1 b = y.1 b) → y.2 ≤ y'.2 → n0 ≤ (gLs g).2.2.2.2.2.1 ∧ n0 ≤ (gLs g).2.2.2.2.2.2 → (∀ d r n, ¬ gNR g d r n) → gXc g = [] → (∀ d r n, ¬ gCR g d r n) → (∀ l, l < y.2 → D l = D0 l ∧ K l = 100) → post y') : wp_X2_init G B post y e := by
  refine ⟨by omega, ini_list hv hn hc (by decide) (fun y4 v4 c4 o4 n4 => ⟨by omega, ini_list v4 (by omega) c4 (by simp) (fun y9 v9 c9 o9 n9 => ⟨by omega, ini_list v9 (by omega) c9 (by simp) (fun y14 v14 c14 o14 n14 => ⟨by omega, ini_list v14 (by omega) c14 (by simp) (fun y19 v19 c19 o19 n19 => ⟨by omega, ini_list v19 (by omega) c19 (by simp) (fun y24 v24 c24 o24 n24 => ⟨by omega, ?_⟩)⟩)⟩)⟩)⟩)⟩
  rintro a27 rfl y26 hy26
  have le := hv.1.1.lt hc
  have v26 := v24.nw (x := ar 7 16 (fun _ => none))
  rw [← hy26] at v26
  have e26 : y26.1 e = y24.1 e := by rw [hy26, hnew_ne (by omega)]
  have c26 := e26.trans c24
  refine ⟨_, c26, by simp, fun y28 hy28 => ⟨by omega, ?_⟩⟩
  rintro a31 rfl y30 hy30
  have n26 : y26.2 = y24.2 + 1 := by rw [hy26]; rfl
  have n28 : y28.2 = y26.2 := by rw [hy28]; rfl
  have c28 := (congrArg (fun (z : HS) => z.1 e) hy28).trans (hput_at _ _ _)
  have v28 := v26.putE c26 (by decide) hy28
  have e30 : y30.1 e = y28.1 e := by rw [hy30, hnew_ne (by omega)]
  have c30 := e30.trans c28
  have v30 := v28.nw (x := ai 5 16 (fun _ => 0))
  rw [← hy30] at v30
  refine ⟨_, c30, by simp, fun y32 hy32 => ?_⟩
  have v32 := v30.putE c30 (by decide) hy32
  have c32 : y32.1 e = some (ob 1 [va_rf (some y.2), va_rf (some y4.2), va_rf (some y9.2), va_rf (some y14.2), va_rf (some y19.2), va_rf (some y24.2), va_rf (some y28.2), .int 0, .int 0]) := by rw [hy32, hput_at]; rfl
  have a26 : y26.1 y24.2 = some (ar 7 16 (fun _ => none)) := by rw [hy26, hnew_at]
  have nm32 : y32.1 y24.2 = some (ar 7 16 (fun _ => none)) := by
    rw [hy32, hput_ne (by omega), hy30, hnew_ne (by omega), hy28, hput_ne (by omega)]; exact a26
  have wt32 : y32.1 y28.2 = some (ai 5 16 (fun _ => 0)) := by
    rw [hy32, hput_ne (by omega), hy30, hnew_at]
  have n30 : y30.2 = y28.2 + 1 := by rw [hy30]; rfl
  have n32 : y32.2 = y30.2 := by rw [hy32]; rfl
  refine hp y32 _ (fun l => if l = y.2 then 1 else if l = y4.2 then 2 else if l = y9.2 then 3 else if l = y14.2 then 4 else if l = y19.2 then 5 else 100) (fun _ => 0, fun _ _ _ => False, fun _ _ _ => False, (y.2, y4.2, y9.2, y14.2, y19.2, y24.2, y28.2), []) v32 ⟨⟨c32, ⟨[], ?_, All2.nil⟩, ⟨[], ?_, All2.nil⟩, ⟨_, nm32, fun k hk => absurd hk (Nat.not_lt_zero _), fun _ _ => rfl⟩, ⟨_, wt32, fun k hk => absurd hk (Nat.not_lt_zero _)⟩, Nat.zero_le _, Nat.zero_le _, Nat.zero_le _⟩, ⟨fun _ _ _ z => z.elim, fun _ _ _ _ _ z => z, fun _ _ _ z => z.elim, fun _ _ _ _ _ z => z, fun _ _ _ _ _ z => z.elim, fun _ _ _ _ z => z.elim⟩, ⟨?_, ?_, ?_, ?_, ?_, ?_, ?_⟩, ⟨?_, List.nodup_nil, rfl, Nat.zero_le _, fun k hk => absurd hk (Nat.not_lt_zero _)⟩⟩ (fun b hb hbe => ?_) (by omega) ⟨by show n0 ≤ y24.2; omega, by show n0 ≤ y28.2; omega⟩ (fun _ _ _ z => z) rfl (fun _ _ _ z => z) (fun l hl => ⟨?_, ?_⟩)
  · show va_up _ _ _ y4.2 = some []
    rw [up_ne (by omega), up_ne (by omega), up_ne (by omega), up_at]
  · show va_up _ _ _ y9.2 = some []
    rw [up_ne (by omega), up_ne (by omega), up_at]
  · show (if y.2 = y.2 then 1 else _) = 1
    rw [if_pos rfl]
  · show (if y4.2 = y.2 then 1 else if y4.2 = y4.2 then 2 else if y4.2 = y9.2 then 3 else if y4.2 = y14.2 then 4 else if y4.2 = y19.2 then 5 else 100) = 2
    rw [if_neg (by omega), if_pos rfl]
  · show (if y9.2 = y.2 then 1 else if y9.2 = y4.2 then 2 else if y9.2 = y9.2 then 3 else if y9.2 = y14.2 then 4 else if y9.2 = y19.2 then 5 else 100) = 3
    rw [if_neg (by omega), if_neg (by omega), if_pos rfl]
  · show (if y14.2 = y.2 then 1 else if y14.2 = y4.2 then 2 else if y14.2 = y9.2 then 3 else if y14.2 = y14.2 then 4 else if y14.2 = y19.2 then 5 else 100) = 4
    rw [if_neg (by omega), if_neg (by omega), if_neg (by omega), if_pos rfl]
  · show (if y19.2 = y.2 then 1 else if y19.2 = y4.2 then 2 else if y19.2 = y9.2 then 3 else if y19.2 = y14.2 then 4 else if y19.2 = y19.2 then 5 else 100) = 5
    rw [if_neg (by omega), if_neg (by omega), if_neg (by omega), if_neg (by omega), if_pos rfl]
  · show va_up _ _ _ y14.2 = some []
    rw [up_ne (by omega), up_at]
  · show va_up _ _ _ y19.2 = some []
    rw [up_at]
  · show va_up _ _ _ y.2 = some []
    rw [up_ne (by omega), up_ne (by omega), up_ne (by omega), up_ne (by omega), up_at]
  · rw [hy32, hput_ne hbe, hy30, hnew_ne (by omega), hy28, hput_ne hbe, hy26, hnew_ne (by omega), o24 b (by omega) hbe, o19 b (by omega) hbe, o14 b (by omega) hbe, o9 b (by omega) hbe, o4 b hb hbe]
  · rw [up_ne (by omega), up_ne (by omega), up_ne (by omega), up_ne (by omega), up_ne (by omega)]
  · show (if l = y.2 then 1 else if l = y4.2 then 2 else if l = y9.2 then 3 else if l = y14.2 then 4 else if l = y19.2 then 5 else 100) = 100
    rw [if_neg (by omega), if_neg (by omega), if_neg (by omega), if_neg (by omega), if_neg (by omega)]
theorem V2.none {G : GP} {n0 : Nat} {y : HS} (h : WF G y) : V2 G n0 y (fun _ => none) := ⟨⟨h, fun _ => 0, fun _ => 0, fun _ _ z => (by cases z), fun _ _ _ _ z => (by cases z)⟩, fun _ _ z => (by cases z)⟩
theorem x6_init {G : GP} {n0 : Nat} {y : HS} {R X len B : Nat} {post : HS → Prop} (hw : WF G y) (hn : n0 ≤ R) (hR : y.1 R = some (ob 4 [.int 0, va_rf none, .int 0, .int 0, va_rf none, .int 0, .int 0, .int 0, va_rf none, va_rf none])) (hB : 8 ≤ B) (hp : ∀ y' e D K g, V2 G n0 y' D → PE G y' D K e E0 0 g (fun _ => []) → rdO y' R len e X 0 0 none 0 0 0 none → (∀ b, b < y.2 → b ≠ R → y'.1 b = y.1 b) → y.2 ≤ y'.2 → n0 ≤ e ∧ n0 ≤ (gLs g).2.2.2.2.2.1 ∧ n0 ≤ (gLs g).2.2.2.2.2.2 → (∀ d r n, ¬ gNR g d r n) → gXc g = [] → post y') : wp_X6_init G B post y R (some X) (nI len) := by
  have lR := hw.lt hR
  refine ⟨_, hR, by decide, fun y1 hy1 => ⟨by omega, ?_⟩⟩
  rintro a4 rfl y3 hy3
  have n1 : y1.2 = y.2 := by rw [hy1]; rfl
  have w1 : WF G y1 := by rw [hy1]; exact hw.put hR
  have w3 : WF G y3 := by rw [hy3]; exact w1.new
  have n3 : y3.2 = y1.2 + 1 := by rw [hy3]; rfl
  have c3 : y3.1 y1.2 = some (ob 1 [va_rf none, va_rf none, va_rf none, va_rf none, va_rf none, va_rf none, va_rf none, .int 0, .int 0]) := by rw [hy3, hnew_at]
  have r3 : y3.1 R = some (ob 4 [.int 0, va_rf none, .int 0, .int 0, va_rf none, .int 0, .int 0, .int 0, va_rf none, va_rf (some X)]) := by rw [hy3, hnew_ne (by omega), hy1, hput_at]; rfl
  refine ⟨7, by omega, x2_init (V2.none (n0 := n0) w3) (by omega) c3 (Nat.le_refl _) (fun y5 D K g v5 p5 o5 n5 g5 gN gX _ _ => ?_)⟩
  have r5 := (o5 R (by omega) (by omega)).trans r3
  refine ⟨_, r5, by simp, fun y7 hy7 => ?_⟩
  have r7 : y7.1 R = some (ob 4 [.int 0, va_rf (some y1.2), .int 0, .int 0, va_rf none, .int 0, .int 0, .int 0, va_rf none, va_rf (some X)]) := by rw [hy7, hput_at]; rfl
  refine ⟨_, r7, by simp, fun y9 hy9 => ?_⟩
  have r9 : y9.1 R = some (ob 4 [.int (nI len), va_rf (some y1.2), .int 0, .int 0, va_rf none, .int 0, .int 0, .int 0, va_rf none, va_rf (some X)]) := by rw [hy9, hput_at]; rfl
  have Q7 : Qs y5 y7 := by rw [hy7]; exact Qs.put4 r5
  have Q9 : Qs y7 y9 := by rw [hy9]; exact Qs.put4 r7
  have Q := Q7.tr Q9
  have w9 : WF G y9 := by rw [hy9]; refine WF.put ?_ r7; rw [hy7]; exact v5.1.1.put r5
  have n9 : y9.2 = y5.2 := by rw [hy9, hy7]; rfl
  refine hp y9 y1.2 D K g (Q.v2 v5 w9) (p5.st Q.pks (Q.kf v5.1).one (KD.rf _ D K)) r9 (fun b hb hbR => ?_) (by omega) ⟨by omega, g5⟩ gN gX
  rw [hy9, hput_ne hbR, hy7, hput_ne hbR, o5 b (by omega) (by omega), hy3, hnew_ne (by omega), hy1, hput_ne hbR]
