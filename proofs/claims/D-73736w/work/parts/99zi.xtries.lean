/-! The component's reader: all is tried -/
set_option maxRecDepth 100000
def lxl (a b c d e a' b' c' d' e' : Nat) : Prop := a < a' ∨ a = a' ∧ (b < b' ∨ b = b' ∧ (c < c' ∨ c = c' ∧ (d < d' ∨ d = d' ∧ e < e')))
def gnT (E : Ed) (rt : Nat) (an : Nat) (t1 t2 : Int32) (lv tp : Nat) : Nat := (gn (evB (nI an) t1 t2 (nI lv) (nI tp)) (eNd E) (eCn E) 40 rt).1
/-- all that comes before is done -/
def dnT (E : Ed) (rt C : Nat) (A1 A2 : List Int32) (M : Nat → Bool) (an lv tp i j : Nat) : Prop := ∀ an' lv' tp' i' j' (h1 : i' < A1.length) (h2 : j' < A2.length), an' < C → lv' ≤ 3 → tp' ≤ 9 → lxl an' lv' tp' i' j' an lv tp i j → M (gnT E rt an' A1[i'] A2[j'] lv' tp') = true
theorem dnT.mono {E : Ed} {rt C : Nat} {A1 A2 : List Int32} {M : Nat → Bool} {an lv tp i j an2 lv2 tp2 i2 j2 : Nat} (h : dnT E rt C A1 A2 M an lv tp i j) (hl : ∀ a b c d e, d < A1.length → e < A2.length → b ≤ 3 → c ≤ 9 → lxl a b c d e an2 lv2 tp2 i2 j2 → lxl a b c d e an lv tp i j) : dnT E rt C A1 A2 M an2 lv2 tp2 i2 j2 := fun a b c d e h1 h2 h3 h4 h5 h6 => h a b c d e h1 h2 h3 h4 h5 (hl a b c d e h1 h2 h4 h5 h6)
theorem dnT.mk {E : Ed} {rt C : Nat} {A1 A2 : List Int32} {M : Nat → Bool} {an lv tp i j n : Nat} (h : dnT E rt C A1 A2 M an lv tp i j) (hi : i < A1.length) (hj : j < A2.length) (hn : n = gnT E rt an A1[i] A2[j] lv tp) : dnT E rt C A1 A2 (fun m => if m = n then true else M m) an lv tp i (j + 1) := fun a b c d e h1 h2 h3 h4 h5 h6 => by
  show (if _ = n then true else M _) = true
  by_cases hc : a = an ∧ b = lv ∧ c = tp ∧ d = i ∧ e = j
  · obtain ⟨rfl, rfl, rfl, rfl, rfl⟩ := hc
    rw [if_pos hn.symm]
  · have := h a b c d e h1 h2 h3 h4 h5 (by unfold lxl at h6 ⊢; omega)
    rw [this]
    split <;> rfl
def sdT (E : Ed) (rt C : Nat) (A1 A2 : List Int32) (M0 M : Nat → Bool) : Prop := ∀ n, M n = true → M0 n = true ∨ ∃ an t1 t2 lv tp, an < C ∧ t1 ∈ A1 ∧ t2 ∈ A2 ∧ lv ≤ 3 ∧ tp ≤ 9 ∧ n = gnT E rt an t1 t2 lv tp
/-- what lies below n0 is kept, and Readers -/
def Fr4 (n0 : Nat) (y y' : HS) : Prop := (∀ b, b < n0 → y'.1 b = y.1 b) ∧ ∀ b fs, y.1 b = some (ob 4 fs) → y'.1 b = some (ob 4 fs)
theorem Fr4.rf (n0 : Nat) (y : HS) : Fr4 n0 y y := ⟨fun _ _ => rfl, fun _ _ h => h⟩
theorem Fr4.tr {n0 : Nat} {y y1 y2 : HS} (h : Fr4 n0 y y1) (h2 : Fr4 n0 y1 y2) : Fr4 n0 y y2 := ⟨fun b hb => (h2.1 b hb).trans (h.1 b hb), fun b fs hb => h2.2 b fs (h.2 b fs hb)⟩
theorem Kn0.f4 {n0 : Nat} {y y' : HS} (h : Kn0 n0 y y') : Fr4 n0 y y' := ⟨h.2, fun b fs hb => h.1 b _ hb rfl⟩
theorem Fr4.put {n0 : Nat} {y : HS} {a c : Nat} {fs : List Value} {x : HE} (hn : n0 ≤ a) (ha : y.1 a = some (ob c fs)) (hc : c ≠ 4) : Fr4 n0 y (hput y a x) := ⟨fun b hb => hput_ne (by omega), fun b fs' hb => by
  rw [hput_ne (fun ee => by rw [ee, ha] at hb; exact hc (ob_inj.mp (Option.some.inj hb)).1)]
  exact hb⟩
def TRI (G : GP) (n0 : Nat) (D : LM) (K : Nat → Nat) (e : Nat) (E : Ed) (g : EG) (gA : Nat → List Cn) (L : List Nat × List Nat) (q1 q2 a2 rt C : Nat) (A1 A2 : List Int32) (M0 : Nat → Bool) (y y' : HS) (v0 v3 v4 : Int32) (M : Nat → Bool) : Prop :=
  ENs G n0 y' D K e E g gA M L ∧ (∀ n, M0 n = true → M n = true) ∧ sdT E rt C A1 A2 M0 M ∧ (rowI y' q1 A1 ∧ rowI y' q2 A2) ∧ Fr4 n0 y y' ∧ y.2 ≤ y'.2 ∧ ∃ x1 x2, y'.1 a2 = some (ob 16 [.int v0, .int x1, .int x2, .int v3, .int v4])
theorem rowI.put {y : HS} {q a c : Nat} {vs : List Int32} {fs : List Value} {x : HE} (h : rowI y q vs) (ha : y.1 a = some (ob c fs)) : rowI (hput y a x) q vs := by
  obtain ⟨gq, h1, h2⟩ := h
  exact ⟨gq, by rw [hput_ne (fun ee => by rw [ee, ha] at h1; exact ob_ne_ai (Option.some.inj h1))]; exact h1, h2⟩
theorem TRI.p {G : GP} {n0 : Nat} {D : LM} {K : Nat → Nat} {e : Nat} {E : Ed} {g : EG} {gA : Nat → List Cn} {L : List Nat × List Nat} {q1 q2 a2 rt C : Nat} {A1 A2 : List Int32} {M0 : Nat → Bool} {y y' : HS} {v0 v3 v4 : Int32} {M : Nat → Bool} {fs : List Value} (h : TRI G n0 D K e E g gA L q1 q2 a2 rt C A1 A2 M0 y y' v0 v3 v4 M) (hn : n0 ≤ a2) {w0 x1 x2 w3 w4 : Int32} (hf : fs = [.int w0, .int x1, .int x2, .int w3, .int w4]) : TRI G n0 D K e E g gA L q1 q2 a2 rt C A1 A2 M0 y (hput y' a2 (ob 16 fs)) w0 w3 w4 M := by
  obtain ⟨h1, h2, h3, ⟨h4, h5⟩, h6, h7, z1, z2, h8⟩ := h
  exact ⟨h1.p16 h8, h2, h3, ⟨h4.put h8, h5.put h8⟩, h6.tr (Fr4.put hn h8 (by decide)), h7, x1, x2, by rw [hput_at, hf]⟩
theorem TRI.mk {G : GP} {n0 : Nat} {D : LM} {K : Nat → Nat} {e n : Nat} {E : Ed} {g : EG} {gA : Nat → List Cn} {L : List Nat × List Nat} {q1 q2 a2 rt C : Nat} {A1 A2 : List Int32} {M0 : Nat → Bool} {y y' : HS} {v0 v3 v4 : Int32} {M : Nat → Bool} {x : Nd} (h : TRI G n0 D K e E g gA L q1 q2 a2 rt C A1 A2 M0 y y' v0 v3 v4 M) (hx : (eNd E)[n]? = some x) (hp : ¬ x.1 < 0) (hl : n0 ≤ gNa g n) {an lv tp : Nat} {t1 t2 : Int32} (b1 : an < C) (b2 : t1 ∈ A1) (b3 : t2 ∈ A2) (b4 : lv ≤ 3) (b5 : tp ≤ 9) (b6 : n = gnT E rt an t1 t2 lv tp) : TRI G n0 D K e E g gA L q1 q2 a2 rt C A1 A2 M0 y (hput y' (gNa g n) (ob 11 [.int x.1, .int (nI 1)])) v0 v3 v4 (fun m => if m = n then true else M m) := by
  obtain ⟨h1, h2, h3, ⟨h4, h5⟩, h6, h7, z1, z2, h8⟩ := h
  have hc := h1.2.2.2.2.2.2.1 n x hx hp
  refine ⟨h1.mark hx hp, fun m hm => ?_, fun m hm => ?_, ⟨h4.put hc, h5.put hc⟩, h6.tr (Fr4.put hl hc (by decide)), h7, z1, z2, ?_⟩
  · show (if m = n then true else M m) = true
    rw [h2 m hm]
    split <;> rfl
  · by_cases hmn : m = n
    · exact Or.inr ⟨an, t1, t2, lv, tp, b1, b2, b3, b4, b5, hmn.trans b6⟩
    · have hm' : (if m = n then true else M m) = true := hm
      rw [if_neg hmn] at hm'
      exact h3 m hm'
  · rw [hput_ne (fun ee => by rw [ee, hc] at h8; exact absurd (ob_inj.mp (Option.some.inj h8)).1 (by decide))]
    exact h8
theorem nlt_iff {a b : Nat} (ha : a < 2 ^ 31) (hb : b < 2 ^ 31) : nI a < nI b ↔ a < b := by
  rw [Int32.lt_iff_toInt_lt, nI_toInt ha, nI_toInt hb]; omega
theorem shl_2 : ∀ c, c ≤ 6 → (nI 1 <<< (nI c &&& 31)) = nI (2 ^ c) := by decide +kernel
theorem pow_le6 : ∀ c, c ≤ 6 → 2 ^ c ≤ 64 := by decide
theorem sp_tries {G : GP} {n0 : Nat} {y : HS} {D : LM} {K : Nat → Nat} {e B k cq : Nat} {E : Ed} {g : EG} {gA : Nat → List Cn} {M : Nat → Bool} {L : List Nat × List Nat} {post : HS → Prop} (hG : GK G) (h : ENs G n0 y D K e E g gA M L) (hn0 : n0 ≤ y.2) (ho : cOk (eCn E)) (hn : nOk E) (h40 : (eNd E).length ≤ 40) (hNa : ∀ n, n < (eNd E).length → n0 ≤ gNa g n) (hk : k < (eCh E).length) (hcq : (gXc g)[k]? = some cq) (htr : (eCh E)[k].2.2 ≠ -1) (hA : (gA k).length ≤ 12 ∧ (atF 9 (gA k)).length ≤ 6 ∧ (atF 0 (gA k)).length ≤ 6) (hB : 21 ≤ B)
    (hp : ∀ y' D' K' M', ENs G n0 y' D' K' e E g gA M' L → Fr4 n0 y y' → y.2 ≤ y'.2 → (∀ n, M n = true → M' n = true) → sdT E (ix (eCh E)[k].2.2) (2 ^ (atF 0 (gA k)).length) (tns 6 (nI 0) (nI 120) (gA k)) (tns 7 (nI 1) (nI 400) (gA k)) M M' → (∀ an t1 t2 lv tp, an < 2 ^ (atF 0 (gA k)).length → t1 ∈ tns 6 (nI 0) (nI 120) (gA k) → t2 ∈ tns 7 (nI 1) (nI 400) (gA k) → lv ≤ 3 → tp ≤ 9 → M' (gnT E (ix (eCh E)[k].2.2) an t1 t2 lv tp) = true) → post y') : wp_X2_tries G B post y e (some cq) := by
  have hwf := h.1.1.1
  refine ⟨by omega, ?_⟩
  rintro a2 rfl y1 hy1
  have E1 : ENs G n0 y1 D K e E g gA M L := by rw [hy1]; exact h.nw
  have K1 : Kn0 n0 y y1 := by rw [hy1]; exact Kn0.nw hwf hn0
  have n1 : y1.2 = y.2 + 1 := by rw [hy1]; rfl
  have c1 : y1.1 y.2 = some (ob 16 [.int 0, .int 0, .int 0, .int 0, .int 0]) := by rw [hy1, hnew_at]
  obtain ⟨cq', nm, l, la, ll, tr, xs, g1, g2, g3, g4, -, gtr, g7, -⟩ := E1.chap hk
  rw [hcq] at g1
  cases g1
  obtain ⟨fsA, hfA⟩ := E1.1.1.cell g3
  have hlA := g4.1
  show wp_X3_init_r16 G _ y1 y.2
  refine ⟨fun n y' u x9 x10 => ∃ j, j ≤ (gA k).length ∧ n = (gA k).length - j ∧ x10 = nI j ∧ x9 = nI (atF 0 ((gA k).take j)).length ∧ u = 1 ∧ y' = y1, ⟨_, 0, Nat.zero_le _, rfl, rfl, rfl, rfl, rfl⟩, ?_⟩
  rintro n5 y6 u11 x9 x10 ⟨j, hj, rfl, rfl, rfl, rfl, rfl⟩
  refine ⟨by omega, cq, rfl, _, ⟨_, g2, rfl⟩, la, rfl, ⟨fsA, Or.inl hfA⟩, E1.1.1.size g3 ?_⟩
  rw [hlA]
  refine ⟨fun hge => ?_, fun hlt => ?_⟩
  · have hjl := nle_of (by omega) hj hge
    rw [List.take_of_length_le (by omega), shl_2 _ hA.2.2]
    have hC64 := pow_le6 _ hA.2.2
    refine ⟨⟨_, Or.inl E1.2.1.1⟩, 10, by omega, sp_turns (w := 6) (lo := 0) (hi := 120) hG E1 (by omega) hk hcq (Or.inl rfl) ⟨hA.1, hA.2.1⟩ (Nat.le_refl _) (fun y20 q1 D2 K2 E20 K20 n20 l20 r20 => ⟨⟨_, Or.inl E20.2.1.1⟩, 10, by omega, sp_turns (w := 7) (lo := 1) (hi := 400) hG E20 (by omega) hk hcq (Or.inr rfl) ⟨hA.1, hA.2.1⟩ (Nat.le_refl _) (fun y24 q2 D4 K4 E24 K24 n24 l24 r24 => ?_)⟩)⟩
    have r24' : rowI y24 q1 (tns 6 (nI 0) (nI 120) (gA k)) := by
      obtain ⟨gq, z1, z2⟩ := r20
      exact ⟨gq, K24.1 _ _ z1 rfl, z2⟩
    have c24 : y24.1 y.2 = some (ob 16 [.int 0, .int 0, .int 0, .int 0, .int 0]) := K24.1 _ _ (K20.1 _ _ c1 rfl) rfl
    have T24 : TRI G n0 D4 K4 e E g gA L q1 q2 y.2 (ix (eCh E)[k].2.2) (2 ^ (atF 0 (gA k)).length) (tns 6 (nI 0) (nI 120) (gA k)) (tns 7 (nI 1) (nI 400) (gA k)) M y y24 0 0 0 M := ⟨E24, fun _ z => z, fun _ z => Or.inl z, ⟨r24', r24⟩, ((K1.tr K20).tr K24).f4, by omega, 0, 0, c24⟩
    generalize hCe : 2 ^ (atF 0 (gA k)).length = C at *
    generalize hrt : ix (eCh E)[k].2.2 = rt at *
    have hl1 : (tns 6 (nI 0) (nI 120) (gA k)).length ≤ 13 := by
      show ((((gA k)).filter (tIn 6 (nI 0) (nI 120))).map tAt).length + 1 ≤ 13
      rw [List.length_map]
      have := List.length_filter_le (tIn 6 (nI 0) (nI 120)) (gA k)
      omega
    have hl2 : (tns 7 (nI 1) (nI 400) (gA k)).length ≤ 13 := by
      show ((((gA k)).filter (tIn 7 (nI 1) (nI 400))).map tAt).length + 1 ≤ 13
      rw [List.length_map]
      have := List.length_filter_le (tIn 7 (nI 1) (nI 400)) (gA k)
      omega
    generalize hA1 : tns 6 (nI 0) (nI 120) (gA k) = A1 at *
    generalize hA2 : tns 7 (nI 1) (nI 400) (gA k) = A2 at *
    refine ⟨_, c24, by decide, fun y28 hy28 => ?_⟩
    have T28 : TRI G n0 D4 K4 e E g gA L q1 q2 y.2 rt C A1 A2 M y y28 (nI 0) 0 0 M := by rw [hy28]; exact T24.p hn0 (x1 := 0) (x2 := 0) rfl
    refine ⟨fun n y' u => ∃ an M' v3 v4, an ≤ C ∧ n = C - an ∧ u = 21 ∧ TRI G n0 D4 K4 e E g gA L q1 q2 y.2 rt C A1 A2 M y y' (nI an) v3 v4 M' ∧ dnT E rt C A1 A2 M' an 0 0 0 0, ⟨_, 0, M, 0, 0, Nat.zero_le _, rfl, rfl, T28, fun a b c d e' _ _ _ _ _ z => by unfold lxl at z; omega⟩, ?_⟩
    rintro n31 y32 u35 ⟨an, M1, v3, v4, han, rfl, rfl, T32, d32⟩
    obtain ⟨x1, x2, c32⟩ := T32.2.2.2.2.2.2
    refine ⟨by omega, _, ⟨_, c32, rfl⟩, fun hge2 => ?_, fun hlt2 => ?_⟩
    · have hac := nle_of (by omega) han hge2
      refine hp y32 D4 K4 M1 T32.1 T32.2.2.2.2.1 T32.2.2.2.2.2.1 T32.2.1 T32.2.2.1 (fun a t1 t2 lv tp z1 z2 z3 z4 z5 => ?_)
      obtain ⟨i, hi, rfl⟩ := List.mem_iff_getElem.mp z2
      obtain ⟨j', hj', rfl⟩ := List.mem_iff_getElem.mp z3
      exact d32 a lv tp i j' hi hj' z1 z4 z5 (Or.inl (by omega))
    · have hac := nlt_of (by omega) han hlt2
      refine ⟨_, c32, by simp, fun y39 hy39 => ?_⟩
      have T39 : TRI G n0 D4 K4 e E g gA L q1 q2 y.2 rt C A1 A2 M y y39 (nI an) (nI 0) v4 M1 := by rw [hy39]; exact T32.p hn0 rfl
      refine ⟨fun n y' u => ∃ lv M' v4, lv ≤ 4 ∧ n = 4 - lv ∧ u = 21 ∧ TRI G n0 D4 K4 e E g gA L q1 q2 y.2 rt C A1 A2 M y y' (nI an) (nI lv) v4 M' ∧ dnT E rt C A1 A2 M' an lv 0 0 0, ⟨_, 0, M1, v4, by omega, rfl, rfl, T39, d32⟩, ?_⟩
      rintro n42 y43 u46 ⟨lv, M2, v4', hlv, rfl, rfl, T43, d43⟩
      obtain ⟨x1', x2', c43⟩ := T43.2.2.2.2.2.2
      refine ⟨by omega, _, ⟨_, c43, rfl⟩, fun hge3 => ?_, fun hlt3 => ?_⟩
      · have h3 := (nlt_iff (by omega) (by omega)).mp hge3
        refine ⟨_, ⟨_, c43, rfl⟩, _, c43, by simp, fun y51 hy51 => ?_⟩
        rw [nI_add] at hy51
        have T51 : TRI G n0 D4 K4 e E g gA L q1 q2 y.2 rt C A1 A2 M y y51 (nI (an + 1)) (nI lv) v4' M2 := by rw [hy51]; exact T43.p hn0 rfl
        exact ⟨C - (an + 1), by omega, an + 1, M2, _, _, by omega, rfl, rfl, T51, d43.mono (fun a b c d e' _ _ _ _ z => by unfold lxl at z ⊢; omega)⟩
      · have h3 : lv ≤ 3 := Nat.le_of_not_lt (fun z => hlt3 ((nlt_iff (by omega) (by omega)).mpr z))
        refine ⟨_, c43, by simp, fun y54 hy54 => ?_⟩
        have T54 : TRI G n0 D4 K4 e E g gA L q1 q2 y.2 rt C A1 A2 M y y54 (nI an) (nI lv) (nI 0) M2 := by rw [hy54]; exact T43.p hn0 rfl
        refine ⟨fun n y' u => ∃ tp M', tp ≤ 10 ∧ n = 10 - tp ∧ u = 21 ∧ TRI G n0 D4 K4 e E g gA L q1 q2 y.2 rt C A1 A2 M y y' (nI an) (nI lv) (nI tp) M' ∧ dnT E rt C A1 A2 M' an lv tp 0 0, ⟨_, 0, M2, by omega, rfl, rfl, T54, d43⟩, ?_⟩
        rintro n57 y58 u61 ⟨tp, M3, htp, rfl, rfl, T58, d58⟩
        obtain ⟨x1'', x2'', c58⟩ := T58.2.2.2.2.2.2
        refine ⟨by omega, _, ⟨_, c58, rfl⟩, fun hge4 => ?_, fun hlt4 => ?_⟩
        · have h9 := (nlt_iff (by omega) (by omega)).mp hge4
          refine ⟨_, ⟨_, c58, rfl⟩, _, c58, by simp, fun y66 hy66 => ?_⟩
          rw [nI_add] at hy66
          have T66 : TRI G n0 D4 K4 e E g gA L q1 q2 y.2 rt C A1 A2 M y y66 (nI an) (nI (lv + 1)) (nI tp) M3 := by rw [hy66]; exact T58.p hn0 rfl
          exact ⟨4 - (lv + 1), by omega, lv + 1, M3, _, by omega, rfl, rfl, T66, d58.mono (fun a b c d e' _ _ _ _ z => by unfold lxl at z ⊢; omega)⟩
        · have h9 : tp ≤ 9 := Nat.le_of_not_lt (fun z => hlt4 ((nlt_iff (by omega) (by omega)).mpr z))
          obtain ⟨gq1, r1, r2⟩ := T58.2.2.2.1.1
          refine ⟨q1, rfl, _, gq1, Or.inl r1, ?_⟩
          rintro x72 rfl
          refine ⟨fun n y' u x => ∃ i M', i ≤ A1.length ∧ n = A1.length - i ∧ x = nI i ∧ u = 21 ∧ TRI G n0 D4 K4 e E g gA L q1 q2 y.2 rt C A1 A2 M y y' (nI an) (nI lv) (nI tp) M' ∧ dnT E rt C A1 A2 M' an lv tp i 0, ⟨_, 0, M3, Nat.zero_le _, rfl, rfl, rfl, T58, d58⟩, ?_⟩
          rintro n74 y75 u79 x78 ⟨i, M4, hi, rfl, rfl, rfl, T75, d75⟩
          refine ⟨by omega, fun hge5 => ?_, fun hlt5 => ?_⟩
          · have hil := nle_of (by omega) hi hge5
            obtain ⟨w1, w2, c75⟩ := T75.2.2.2.2.2.2
            refine ⟨_, ⟨_, c75, rfl⟩, _, c75, by simp, fun y83 hy83 => ?_⟩
            rw [nI_add] at hy83
            have T83 : TRI G n0 D4 K4 e E g gA L q1 q2 y.2 rt C A1 A2 M y y83 (nI an) (nI lv) (nI (tp + 1)) M4 := by rw [hy83]; exact T75.p hn0 rfl
            exact ⟨10 - (tp + 1), by omega, tp + 1, M4, by omega, rfl, rfl, T83, d75.mono (fun a b c d e' _ _ _ _ z => by unfold lxl at z ⊢; omega)⟩
          · have hi2 := nlt_of (by omega) hi hlt5
            obtain ⟨gq1', s1, s2⟩ := T75.2.2.2.1.1
            obtain ⟨gq2, s3, s4⟩ := T75.2.2.2.1.2
            refine ⟨_, gq1', Or.inl s1, vp_inN hi2 (by omega), ?_⟩
            rintro x88 rfl
            rw [nI_clamp (by omega), s2 i hi2]
            refine ⟨q2, rfl, _, gq2, Or.inl s3, ?_⟩
            rintro x92 rfl
            refine ⟨fun n y' u x => ∃ j M', j ≤ A2.length ∧ n = A2.length - j ∧ x = nI j ∧ u = 21 ∧ TRI G n0 D4 K4 e E g gA L q1 q2 y.2 rt C A1 A2 M y y' (nI an) (nI lv) (nI tp) M' ∧ dnT E rt C A1 A2 M' an lv tp i j, ⟨_, 0, M4, Nat.zero_le _, rfl, rfl, rfl, T75, d75⟩, ?_⟩
            rintro n94 y95 u99 x98 ⟨j', M5, hj', rfl, rfl, rfl, T95, d95⟩
            refine ⟨by omega, fun hge6 => ?_, fun hlt6 => ?_⟩
            · have hjl2 := nle_of (by omega) hj' hge6
              exact ⟨A1.length - (i + 1), by omega, i + 1, M5, by omega, rfl, nI_add i 1, rfl, T95, d95.mono (fun a b c d e' _ _ _ _ z => by unfold lxl at z ⊢; omega)⟩
            · have hj2 := nlt_of (by omega) hj' hlt6
              obtain ⟨gq2', s5, s6⟩ := T95.2.2.2.1.2
              obtain ⟨w1, w2, c95⟩ := T95.2.2.2.2.2.2
              refine ⟨_, gq2', Or.inl s5, vp_inN hj2 (by omega), ?_⟩
              rintro x105 rfl
              rw [nI_clamp (by omega), s6 j' hj2]
              refine ⟨_, c95, by simp, fun y106 hy106 => ?_⟩
              have T106 : TRI G n0 D4 K4 e E g gA L q1 q2 y.2 rt C A1 A2 M y y106 (nI an) (nI lv) (nI tp) M5 := by rw [hy106]; exact T95.p hn0 rfl
              have c106 : y106.1 y.2 = some (ob 16 [.int (nI an), .int A1[i], .int w2, .int (nI lv), .int (nI tp)]) := by rw [hy106, hput_at]; rfl
              refine ⟨_, c106, by simp, fun y108 hy108 => ?_⟩
              have T108 : TRI G n0 D4 K4 e E g gA L q1 q2 y.2 rt C A1 A2 M y y108 (nI an) (nI lv) (nI tp) M5 := by rw [hy108]; exact T106.p hn0 rfl
              have c108 : y108.1 y.2 = some (ob 16 [.int (nI an), .int A1[i], .int A2[j'], .int (nI lv), .int (nI tp)]) := by rw [hy108, hput_at]; rfl
              obtain ⟨cq2, nm2, l2, la2, ll2, tr2, xs2, p1, p2, -, -, -, ptr, -, -⟩ := T108.1.chap hk
              rw [hcq] at p1
              cases p1
              rcases ptr with ⟨pt, -⟩ | ⟨t, rfl, pt1, pt2⟩
              · exact absurd pt htr
              · rw [hrt] at pt2
                have hrl := (T108.1.2.2.2.1 11 t rt pt2).2.2
                obtain ⟨x, hx, hxp, -⟩ := gn_ok (F := evB (nI an) A1[i] A2[j'] (nI lv) (nI tp)) hn 40 rt hrl (by omega)
                refine ⟨_, ⟨_, p2, rfl⟩, ⟨_, Or.inl c108⟩, sp_goes16 T108.1 ho hn c108 11 t rt d_goes16 40 _ (by decide) (by omega) pt2 ?_⟩
                refine ⟨_, rfl, _, T108.1.2.2.2.2.2.2.1 _ x hx hxp, by simp, fun y115 hy115 => ?_⟩
                have T115 := T108.mk hx hxp (hNa _ (List.getElem?_eq_some_iff.mp hx).1) hac (List.getElem_mem hi2) (List.getElem_mem hj2) h3 h9 rfl
                refine ⟨A2.length - (j' + 1), by omega, j' + 1, _, by omega, rfl, nI_add j' 1, rfl, by rw [hy115]; exact T115, d95.mk hi2 hj2 rfl⟩
  · have hj2 := nlt_of (by omega) hj hlt
    obtain ⟨q, e1, e2⟩ := g4.2 j (by omega) hj2
    have e3 := e2
    obtain ⟨w9, z9, sp9, sg9, nb9, d1, -⟩ := e3
    have ht' : atF 0 ((gA k).take (j + 1)) = if (gA k)[j].1 < 6 then atF 0 ((gA k).take j) ++ [(gA k)[j]] else atF 0 ((gA k).take j) := by
      rw [take_snocA hj2]
      unfold atF
      rw [List.filter_append]
      by_cases z : (gA k)[j].1 < 6
      · rw [if_pos z, List.filter_cons_of_pos (by rw [decide_eq_true z]; rfl)]; rfl
      · rw [if_neg z, List.filter_cons_of_neg (by rw [decide_eq_false z]; decide), List.filter_nil, List.append_nil]
    refine ⟨_, ⟨_, g2, rfl⟩, la, rfl, ⟨fsA, Or.inl hfA⟩, E1.1.1.get g3 (i := j) (by omega) ⟨fun z hz => ?_, q, e1, ⟨_, Or.inl d1⟩, sp_ofCodes e2 ⟨fun hb => ?_, fun hb => ?_⟩⟩⟩
    · rw [e1] at hz; cases hz; exact ⟨_, Or.inl d1⟩
    · rintro x138 rfl
      rw [if_neg (of_decide_eq_false hb)] at ht'
      exact ⟨(gA k).length - (j + 1), by omega, j + 1, by omega, rfl, nI_add j 1, by rw [ht', nI_add]; rfl, rfl, rfl⟩
    · rintro x140 rfl
      rw [if_pos (of_decide_eq_true hb)] at ht'
      exact ⟨(gA k).length - (j + 1), by omega, j + 1, by omega, rfl, nI_add j 1, by rw [ht', nI_add, List.length_append]; rfl, rfl, rfl⟩
