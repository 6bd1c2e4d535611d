/-! The component's reader: bytes and numbers -/
set_option maxRecDepth 100000
/-- the Reader at R: size, edition, owner; p, at, token, ended, open, lines, chapter -/
def rdO (y : HS) (R sz e X p at_ : Nat) (tok : Option Nat) (en : Int32) (op ln : Nat) (ch : Option Nat) : Prop := y.1 R = some (ob 4 [.int (nI sz), va_rf (some e), .int (nI p), .int (nI at_), va_rf tok, .int en, .int (nI op), .int (nI ln), va_rf ch, va_rf (some X)])
/-- the text on the tape of X -/
def tpX (y : HS) (X tp : Nat) (bs : List Nat) : Prop := (∃ fs, y.1 X = some (ob 0 (va_rf (some tp) :: fs))) ∧ (∃ g, y.1 tp = some (ai 3 936 g) ∧ ∀ j (h : j < bs.length), g j &&& nI 255 = nI bs[j]) ∧ bs.length ≤ 900 ∧ ∀ b ∈ bs, b < 256
theorem xl_here {G : GP} {y : HS} {R e X tp p at_ op ln : Nat} {tok ch : Option Nat} {en : Int32} {bs : List Nat} {post : Int32 → HS → Prop} (h : rdO y R bs.length e X p at_ tok en op ln ch) (ht : tpX y X tp bs) (hp1 : p ≤ 1000) (hp : post (byI bs p) y) : wp_X6_here G post y R := by
  obtain ⟨⟨fs, t1⟩, ⟨g, t2, t3⟩, t4, t5⟩ := ht
  unfold rdO at h
  refine ⟨nI p, ⟨_, h, rfl⟩, nI bs.length, ⟨_, h, rfl⟩, fun z => ?_, fun z => ⟨_, ⟨_, h, rfl⟩, X, rfl, _, ⟨_, t1, rfl⟩, _, ⟨_, h, rfl⟩, tp, rfl, 936, g, Or.inl t2, ?_, ?_⟩⟩
  · have hle : bs.length ≤ p := (nI_leI (by omega) (by omega)).mp z
    unfold byI at hp
    rw [List.getElem?_eq_none hle] at hp
    exact hp
  · have hlt : p < bs.length := by
      rcases Nat.lt_or_ge p bs.length with w | w
      · exact w
      · exact absurd (nI_le w (by omega)) z
    exact vp_inN (by omega) (by omega)
  · have hlt : p < bs.length := by
      rcases Nat.lt_or_ge p bs.length with w | w
      · exact w
      · exact absurd (nI_le w (by omega)) z
    unfold byI at hp
    rw [List.getElem?_eq_getElem hlt] at hp
    rw [nI_clamp (by omega), t3 p hlt]
    exact hp
theorem lt_wthn {c : Nat} (h : c < 256) : wthn (nI c) (nI 97) (nI 122) = isLt c ∧ wthn (nI c) (nI 48) (nI 57) = isDg c := by
  have : ∀ c, c < 256 → wthn (nI c) (nI 97) (nI 122) = isLt c ∧ wthn (nI c) (nI 48) (nI 57) = isDg c := by decide +kernel
  exact this c h
theorem xl_letter {G : GP} {y : HS} {R q : Nat} {bs : List Nat} {post : Bool → HS → Prop} (hb : ∀ b ∈ bs, b < 256) (hp : post (isLtQ bs q) y) : wp_X6_isLetter G post y R (byI bs q) := by
  unfold wp_X6_isLetter
  refine sp_within ?_
  unfold isLtQ at hp
  unfold byI
  cases hc : bs[q]? with
  | none => rw [hc] at hp; exact hp
  | some c => rw [hc] at hp; rw [(lt_wthn (lt256 hb hc)).1]; exact hp
theorem xl_digit {G : GP} {y : HS} {R q : Nat} {bs : List Nat} {post : Bool → HS → Prop} (hb : ∀ b ∈ bs, b < 256) (hp : post (isDgQ bs q) y) : wp_X6_isDigit G post y R (byI bs q) := by
  unfold wp_X6_isDigit
  refine sp_within ?_
  unfold isDgQ at hp
  unfold byI
  cases hc : bs[q]? with
  | none => rw [hc] at hp; exact hp
  | some c => rw [hc] at hp; rw [(lt_wthn (lt256 hb hc)).2]; exact hp
theorem nmO_snoc (r : List Nat) (c : Nat) : nmO (r ++ [c]) = 10 * nmO r + (c - 48) := by
  unfold nmO
  rw [List.foldl_append]
  rfl
/-- a number out of the builder's letters from place i on -/
theorem xl_numberOf {G : GP} {y : HS} {R b v i : Nat} {bs : List Nat} {post : Int32 → HS → Prop} (h : sbR y b v bs) (hi : i ≤ bs.length) (hd : ∀ c ∈ bs.drop i, 48 ≤ c) (hp : post (nI (nmO (bs.drop i))) y) : wp_X6_numberOf G post y R (some b) (nI i) := by
  have h9 := h.2.2.2.1
  have rdb : rd G y b (ob 19 [va_rf (some v), .int 0, .int 0, .int (nI bs.length)]) := Or.inl h.1
  refine ⟨fun n y' x k => ∃ j, i ≤ j ∧ j ≤ bs.length ∧ n = bs.length - j ∧ y' = y ∧ x = nI (nmO ((bs.take j).drop i)) ∧ k = nI j, ⟨_, i, Nat.le_refl _, hi, rfl, rfl, ?_, rfl⟩, ?_⟩
  · rw [List.drop_eq_nil_of_le (by rw [List.length_take]; omega)]
    rfl
  · rintro n2 y3 x6 x7 ⟨j, hj1, hj2, hn, rfl, hx6, hx7⟩
    refine ⟨b, rfl, ⟨_, rdb⟩, sb_length h ?_⟩
    rw [hx7]
    refine ⟨fun z => ?_, fun z => ⟨⟨_, rdb⟩, ?_⟩⟩
    · have : bs.length ≤ j := (nI_leI (by omega) (by omega)).mp z
      rw [hx6, List.take_of_length_le this]
      exact hp
    · have hlt : j < bs.length := by
        rcases Nat.lt_or_ge j bs.length with w | w
        · exact w
        · exact absurd (nI_le w (by omega)) z
      refine sb_charAt h hlt (fun x17 hx17 => ⟨bs.length - (j + 1), by omega, j + 1, by omega, by omega, rfl, rfl, ?_, nI_add j 1⟩)
      have hge : 48 ≤ bs[j] := hd _ (by
        rw [List.mem_iff_getElem]
        exact ⟨j - i, by rw [List.length_drop]; omega, by rw [List.getElem_drop]; congr 1; omega⟩)
      rw [hx17, hx6, nI_mul, nI_add, nI_sub (by omega), take_snoc hlt, List.drop_append_of_le_length (by rw [List.length_take]; omega), nmO_snoc]
      congr 1
      omega
/-- the hash of a word -/
def hsh (w : List Nat) : Int32 := w.foldl (fun h c => nI 31 * h + nI c) 0
/-- a token's object: code, word, number, sign -/
def TkX (G : GP) (y : HS) (tok : Option Nat) (t : Tk) : Prop := ((t.1 = 0 ∨ t.1 = 5) ∧ tok = none) ∨ (t.1 = 1 ∧ ∃ q, tok = some q ∧ y.1 q = some (ob 5 [.int (nI t.2.2)])) ∨ (t.1 = 2 ∧ ∃ q z h zz, tok = some q ∧ y.1 q = some (ob 20 [va_rf z, .int 0, .int h, .int zz]) ∧ byR G y z t.2.1 ∧ (h = 0 ∨ h = hsh t.2.1) ∧ (zz = 0 ∨ hsh t.2.1 = 0)) ∨ (t.1 = 3 ∧ bx G y tok (nI t.2.2)) ∨ (t.1 = 4 ∧ t.2.2 < 128 ∧ tok = some (gC G t.2.2))
theorem tkO_code {r : List Nat} (h1 : r.countP isLt = 1) (h3 : r.length = 3) : tkO r = (if 97 ≤ r.getD 0 0 ∧ r.getD 0 0 ≤ 106 then (1, [], 100 * (r.getD 0 0 - 97) + nmO (r.drop 1)) else if 112 ≤ r.getD 0 0 ∧ r.getD 0 0 ≤ 116 then (1, [], 1000 + 100 * (r.getD 0 0 - 112) + nmO (r.drop 1)) else (5, [], 0)) := by
  unfold tkO
  rw [if_neg (by omega), if_neg (by omega), if_pos ⟨h1, h3⟩]
theorem sbR.same {y y' : HS} {b v : Nat} {bs : List Nat} (h : sbR y b v bs) (h1 : y'.1 b = y.1 b) (h2 : y'.1 v = y.1 v) : sbR y' b v bs := by
  obtain ⟨a1, a2, ⟨g, a3, a4⟩, a5⟩ := h
  exact ⟨h1.trans a1, a2, ⟨g, h2.trans a3, a4⟩, a5⟩
theorem xl_codeOf {G : GP} {y : HS} {R b v B : Nat} {r : List Nat} {fs : List Value} {post : Option Nat → HS → Prop} (hw : WF G y) (h : sbR y b v r) (hR : y.1 R = some (ob 4 fs)) (hr : ∀ c ∈ r, isLd c = true) (h1 : r.countP isLt = 1) (h3 : r.length = 3) (hB : 1 ≤ B) (hp : ∀ tok y', WF G y' → (∀ a, a < y.2 → y'.1 a = y.1 a) → y.2 ≤ y'.2 → TkX G y' tok (tkO r) → post tok y') : wp_X6_codeOf G B post y R (some b) := by
  have lR := hw.lt hR
  have lb := hw.lt h.1
  have lv : v < y.2 := by obtain ⟨g, hg, _⟩ := h.2.2.1; exact hw.lt hg
  have e0 : r.getD 0 0 = r[0] := by rw [List.getD_eq_getElem?_getD, List.getElem?_eq_getElem (by omega)]; rfl
  have h128 : r[0] < 128 := h.2.2.2.2 _ (List.getElem_mem _)
  have eT := tkO_code h1 h3
  -- the number behind a letter
  have dig : isLt (r.getD 0 0) = true → ∀ c ∈ r.drop 1, 48 ≤ c := by
    intro ha c hc
    obtain ⟨a, t, rfl⟩ : ∃ a t, r = a :: t := by
      cases r with
      | nil => cases h3
      | cons a t => exact ⟨a, t, rfl⟩
    have ha' : isLt a = true := ha
    rw [List.countP_cons_of_pos ha'] at h1
    have hc' : c ∈ t := by simpa using hc
    exact (ld_dg (hr c (List.mem_cons_of_mem _ hc')) (cnt0 (r := t) (by omega) c hc')).1
  have tail : ∀ N : Nat, isLt (r.getD 0 0) = true → tkO r = (1, [], N + nmO (r.drop 1)) → 0 + 1 ≤ B ∧ ∀ a18, a18 = y.2 → ∀ y17, y17 = hnew y (ob 5 [.int 0]) → (∃ fs21, rd G y17 R (ob 4 fs21)) ∧ wp_X6_numberOf G (fun x20 y19 => wp_X7_init G (fun y22 => post (some a18) y22) y19 a18 (nI N + x20)) y17 R (some b) (nI 1) := by
    intro N ha eN
    refine ⟨by omega, ?_⟩
    rintro a18 rfl y17 hy17
    have hb17 : sbR y17 b v r := h.same (by rw [hy17, hnew_ne (by omega)]) (by rw [hy17, hnew_ne (by omega)])
    have hc17 : y17.1 y.2 = some (ob 5 [.int 0]) := by rw [hy17, hnew_at]
    refine ⟨⟨fs, Or.inl (by rw [hy17, hnew_ne (by omega)]; exact hR)⟩, xl_numberOf hb17 (by omega) (dig ha) ⟨_, hc17, by decide, fun y1 hy1 => ?_⟩⟩
    refine hp _ y1 ?_ (fun a ha => ?_) ?_ ?_
    · rw [hy1]; refine WF.put ?_ hc17; rw [hy17]; exact hw.new
    · rw [hy1, hput_ne (by omega), hy17, hnew_ne (by omega)]
    · rw [hy1, hput_2, hy17, hnew_2]; omega
    · rw [eN]
      refine Or.inr (Or.inl ⟨rfl, _, rfl, ?_⟩)
      rw [hy1, hput_at, nI_add]
      rfl
  refine ⟨b, rfl, ⟨_, Or.inl h.1⟩, sb_charAt h (by omega) (sp_within ⟨fun hw1 => sp_within ⟨fun hw2 => ?_, fun hw2 => ?_⟩, fun hw1 => ?_⟩)⟩
  · have n1 : ¬ (97 ≤ r.getD 0 0 ∧ r.getD 0 0 ≤ 106) := by
      rw [e0]
      intro z
      rw [wthn_iff.mpr ⟨by rw [nI_toInt (by omega), nI_toInt (by omega)]; omega, by rw [nI_toInt (by omega), nI_toInt (by omega)]; omega⟩] at hw1
      cases hw1
    have n2 : ¬ (112 ≤ r.getD 0 0 ∧ r.getD 0 0 ≤ 116) := by
      rw [e0]
      intro z
      rw [wthn_iff.mpr ⟨by rw [nI_toInt (by omega), nI_toInt (by omega)]; omega, by rw [nI_toInt (by omega), nI_toInt (by omega)]; omega⟩] at hw2
      cases hw2
    rw [if_neg n1, if_neg n2] at eT
    refine hp none y hw (fun _ _ => rfl) (Nat.le_refl _) ?_
    rw [eT]
    exact Or.inl ⟨Or.inr rfl, rfl⟩
  · have hb2 := wthn_iff.mp hw2
    rw [nI_toInt (by omega), nI_toInt (by omega), nI_toInt (by omega)] at hb2
    rw [e0, if_neg (by omega), if_pos (by omega)] at eT
    have := tail (1000 + 100 * (r[0] - 112)) (by rw [e0]; exact lt_iff.mpr (by omega)) eT
    rw [nI_sub (by omega), nI_mul, nI_add]
    exact this
  · have hb2 := wthn_iff.mp hw1
    rw [nI_toInt (by omega), nI_toInt (by omega), nI_toInt (by omega)] at hb2
    rw [e0, if_pos (by omega)] at eT
    have := tail (100 * (r[0] - 97)) (by rw [e0]; exact lt_iff.mpr (by omega)) eT
    rw [nI_sub (by omega), nI_mul]
    exact this
theorem chu : ∀ c, c < 128 → ((nI c).toUInt32 % 65536).toInt32 = nI c := by decide +kernel
theorem ld_128 {c : Nat} (h : isLd c = true) : c < 128 := by
  unfold isLd isLt isDg at h
  rw [Bool.or_eq_true, Bool.and_eq_true, Bool.and_eq_true, Nat.ble_eq, Nat.ble_eq, Nat.ble_eq, Nat.ble_eq] at h
  omega
theorem bi_nI (b : Bool) : bi b = nI (if b then 1 else 0) := by cases b <;> rfl
theorem rdO.p {y : HS} {R sz e X p at_ op ln : Nat} {tok ch : Option Nat} {en : Int32} (h : rdO y R sz e X p at_ tok en op ln ch) : rdO (hput y R (ob 4 ([.int (nI sz), va_rf (some e), .int (nI p), .int (nI at_), va_rf tok, .int en, .int (nI op), .int (nI ln), va_rf ch, va_rf (some X)].set 2 (.int (nI p + nI 1))))) R sz e X (p + 1) at_ tok en op ln ch := by
  unfold rdO
  rw [hput_at, nI_add]
  rfl
theorem rdO.tk {y : HS} {R sz e X p at_ op ln : Nat} {tok ch : Option Nat} {en : Int32} {t : Option Nat} (h : rdO y R sz e X p at_ tok en op ln ch) : rdO (hput y R (ob 4 ([.int (nI sz), va_rf (some e), .int (nI p), .int (nI at_), va_rf tok, .int en, .int (nI op), .int (nI ln), va_rf ch, va_rf (some X)].set 4 (va_rf t)))) R sz e X p at_ t en op ln ch := by
  unfold rdO
  rw [hput_at]
  rfl
theorem tpX.same {y y' : HS} {X tp : Nat} {bs : List Nat} (h : tpX y X tp bs) (h1 : y'.1 X = y.1 X) (h2 : y'.1 tp = y.1 tp) : tpX y' X tp bs := by
  obtain ⟨⟨fs, a1⟩, ⟨g, a2, a3⟩, a4⟩ := h
  exact ⟨⟨fs, h1.trans a1⟩, ⟨g, h2.trans a2, a3⟩, a4⟩
theorem bx.put {G : GP} {y : HS} {R : Nat} {tok : Option Nat} {v : Int32} {fs : List Value} {e : HE} (h : bx G y tok v) (hR : y.1 R = some (ob 4 fs)) : bx G (hput y R e) tok v := by
  obtain ⟨q, h1, h2⟩ := h
  refine ⟨q, h1, ?_⟩
  rcases h2 with h2 | h2
  · refine Or.inl ?_
    rw [hput_ne (fun z => ?_)]
    · exact h2
    · rw [z, hR] at h2
      exact absurd h2 (by intro w; cases w)
  · exact Or.inr h2
theorem byR.put {G : GP} {y : HS} {R : Nat} {z : Option Nat} {bs : List Nat} {fs : List Value} {e : HE} (h : byR G y z bs) (hR : y.1 R = some (ob 4 fs)) : byR G (hput y R e) z bs := by
  obtain ⟨q, g, h1, h2, h3⟩ := h
  refine ⟨q, g, h1, ?_, h3⟩
  rcases h2 with h2 | h2
  · refine Or.inl ?_
    rw [hput_ne (fun z => ?_)]
    · exact h2
    · rw [z, hR] at h2
      exact absurd h2 (by intro w; cases w)
  · exact Or.inr h2
theorem TkX.put {G : GP} {y : HS} {R : Nat} {tok : Option Nat} {t : Tk} {fs : List Value} {e : HE} (h : TkX G y tok t) (hR : y.1 R = some (ob 4 fs)) : TkX G (hput y R e) tok t := by
  rcases h with h | ⟨h0, q, h1, h2⟩ | ⟨h0, q, z, hh, zz, h1, h2, h3, h4⟩ | ⟨h0, h1⟩ | h
  · exact Or.inl h
  · refine Or.inr (Or.inl ⟨h0, q, h1, ?_⟩)
    rw [hput_ne (fun z => ?_)]
    · exact h2
    · rw [z, hR] at h2
      exact absurd h2 (by intro w; cases w)
  · refine Or.inr (Or.inr (Or.inl ⟨h0, q, z, hh, zz, h1, ?_, h3.put hR, h4⟩))
    rw [hput_ne (fun z => ?_)]
    · exact h2
    · rw [z, hR] at h2
      exact absurd h2 (by intro w; cases w)
  · exact Or.inr (Or.inr (Or.inr (Or.inl ⟨h0, h1.put hR⟩)))
  · exact Or.inr (Or.inr (Or.inr (Or.inr h)))
theorem xl_runs {G : GP} {y : HS} {R e X tp k op ln B : Nat} {ch : Option Nat} {en : Int32} {bs : List Nat} {post : HS → Prop} (hw : WF G y) (h : rdO y R bs.length e X k k none en op ln ch) (ht : tpX y X tp bs) (hk : k ≤ bs.length) (hXR : X ≠ R) (hTR : tp ≠ R) (h1 : 1 ≤ (rnn bs k).length) (hB : 4 ≤ B)
    (hp : ∀ y' tok, WF G y' → rdO y' R bs.length e X (k + (rnn bs k).length) k tok en op ln ch → TkX G y' tok (tkO (rnn bs k)) → (∀ a, a < y.2 → a ≠ R → y'.1 a = y.1 a) → y.2 ≤ y'.2 → (∀ q, tok = some q → (tkO (rnn bs k)).1 = 2 → y.2 ≤ q) → post y') : wp_X6_runs G B post y R := by
  have hlen := ht.2.2.1
  have hb256 := ht.2.2.2
  have hle := rnn_le hk
  have hr : ∀ c ∈ rnn bs k, isLd c = true := rnn_ld
  have lR := hw.lt h
  have lX : X < y.2 := by obtain ⟨⟨fs, a1⟩, _⟩ := ht; exact hw.lt a1
  have lT : tp < y.2 := by obtain ⟨_, ⟨g, a2, _⟩, _⟩ := ht; exact hw.lt a2
  generalize hRR : rnn bs k = r at *
  refine ⟨by omega, ?_⟩
  rintro b rfl y1 hy1
  have w1 : WF G y1 := by rw [hy1]; exact hw.new
  have hb1 : y1.1 y.2 = some (ob 19 [va_rf none, .int 0, .int 0, .int 0]) := by rw [hy1, hnew_at]
  have n1 : y1.2 = y.2 + 1 := by rw [hy1]; rfl
  refine ⟨1, by omega, sb_init w1 hb1 (by omega) (fun y3 w3 s3 n3 f3 => ?_)⟩
  rw [n1] at s3
  have f3' : ∀ a, a < y.2 → y3.1 a = y.1 a := fun a ha => by rw [f3 a (by omega) (by omega), hy1, hnew_ne (by omega)]
  refine ⟨fun n y' u x => ∃ j, j ≤ r.length ∧ n = r.length - j ∧ u = 2 ∧ x = nI ((r.take j).countP isLt) ∧ WF G y' ∧ rdO y' R bs.length e X (k + j) k none en op ln ch ∧ sbR y' y.2 (y.2 + 1) (r.take (min j 9)) ∧ (∀ a, a < y.2 → a ≠ R → y'.1 a = y.1 a) ∧ y'.2 = y.2 + 2, ⟨_, 0, Nat.zero_le _, rfl, rfl, rfl, w3, ?_, ?_, fun a ha _ => f3' a ha, by omega⟩, ?_⟩
  · show y3.1 R = _
    rw [f3' R lR]
    exact h
  · exact s3
  rintro n6 y7 u11 x10 ⟨j, hj, hn, rfl, hx, w7, R7, s7, f7, n7⟩
  have rd7 : ∃ fs, rd G y7 R (ob 4 fs) := ⟨_, Or.inl R7⟩
  have t7 : tpX y7 X tp bs := ht.same (f7 X lX hXR) (f7 tp lT hTR)
  rcases Nat.lt_or_ge j r.length with hlt | hge
  · have hin := ltQ_in (bs := bs) (k := k) (j := j) (by rw [hRR]; exact hlt)
    simp only [hRR] at hin
    obtain ⟨i1, i2, i3, i4⟩ := hin
    have hc128 : r[j] < 128 := ld_128 (hr _ (List.getElem_mem hlt))
    refine ⟨by omega, fun y' u => y' = y7 ∧ u = 2, ?_, rd7, xl_here R7 t7 (by omega) ⟨rd7, xl_letter hb256 ⟨fun _ => ⟨rfl, rfl⟩, fun hb => ⟨rd7, xl_here R7 t7 (by omega) ⟨rd7, xl_digit hb256 ⟨fun hd => ?_, fun _ => ⟨rfl, rfl⟩⟩⟩⟩⟩⟩⟩
    · rintro y15 u16 ⟨rfl, rfl⟩
      refine ⟨by omega, fun y' u b x => y' = y15 ∧ u = 2 ∧ b = isLt r[j] ∧ x = x10, ?_, rd7, xl_here R7 t7 (by omega) ⟨rd7, xl_letter hb256 ⟨fun hb => ⟨rfl, rfl, ?_, rfl⟩, fun hb => ⟨rfl, rfl, ?_, rfl⟩⟩⟩⟩
      · rintro y19 u22 b20 x21 ⟨rfl, rfl, rfl, rfl⟩
        refine ⟨by omega, fun x23 hx23 => ⟨⟨_, Or.inl s7.1⟩, sb_length s7 ?_⟩⟩
        have ex23 : x23 = nI ((r.take (j + 1)).countP isLt) := by rw [hx23, hx, cnt_snoc hlt, bi_nI, nI_add]
        have lt9 : (r.take (min j 9)).length = min j 9 := by rw [List.length_take]; omega
        rw [lt9]
        refine ⟨fun h9 => ?_, fun h9 => ⟨rd7, xl_here R7 t7 (by omega) ⟨⟨_, Or.inl s7.1⟩, ?_⟩⟩⟩
        · have h9' : 9 ≤ min j 9 := (nI_leI (by omega) (by omega)).mp h9
          refine ⟨_, ⟨_, R7, rfl⟩, _, R7, by show 2 < 10; omega, fun y29 hy29 => ⟨r.length - (j + 1), by omega, j + 1, by omega, rfl, rfl, ex23, ?_, ?_, ?_, ?_, ?_⟩⟩
          · rw [hy29]; exact w7.put R7
          · rw [hy29]; exact R7.p
          · rw [show min (j + 1) 9 = min j 9 by omega]
            exact s7.same (by rw [hy29, hput_ne (by omega)]) (by rw [hy29, hput_ne (by omega)])
          · intro a ha hne; rw [hy29, hput_ne hne]; exact f7 a ha hne
          · rw [hy29]; exact n7
        · have h9' : min j 9 < 9 := by
            rcases Nat.lt_or_ge (min j 9) 9 with w | w
            · exact w
            · exact absurd (nI_le w (by omega)) h9
          rw [i3, chu _ hc128]
          refine sb_append w7 s7 (by omega) hc128 (fun y35 w35 s35 n35 f35 => ?_)
          have R35 : rdO y35 R bs.length e X (k + j) k none en op ln ch := by
            show y35.1 R = _
            rw [f35 R (by omega) (by omega)]
            exact R7
          refine ⟨_, ⟨_, R35, rfl⟩, _, R35, by show 2 < 10; omega, fun y39 hy39 => ⟨r.length - (j + 1), by omega, j + 1, by omega, rfl, rfl, ex23, ?_, ?_, ?_, ?_, ?_⟩⟩
          · rw [hy39]; exact w35.put R35
          · rw [hy39]; exact R35.p
          · rw [show min (j + 1) 9 = j + 1 by omega, take_snoc hlt]
            rw [show min j 9 = j by omega] at s35
            exact s35.same (by rw [hy39, hput_ne (by omega)]) (by rw [hy39, hput_ne (by omega)])
          · intro a ha hne; rw [hy39, hput_ne hne, f35 a (by omega) (by omega)]; exact f7 a ha hne
          · rw [hy39, hput_2, n35]; exact n7
      · rw [← i1]; exact hb.symm
      · rw [← i1]; exact hb.symm
    · rw [i1] at hb
      rw [i2, i4 hb] at hd
      cases hd
  · have ej : j = r.length := by omega
    subst ej
    have hout := ltQ_out (bs := bs) (k := k)
    rw [hRR] at hout
    rw [List.take_length] at hx
    have hcle : r.countP isLt ≤ r.length := List.countP_le_length
    -- the token set, the rest as it was
    have fin : ∀ y' tok, (∀ q, tok = some q → (tkO r).1 = 2 → y.2 ≤ q) → WF G y' → y'.1 R = y7.1 R → (∀ a, a < y.2 → a ≠ R → y'.1 a = y.1 a) → y.2 ≤ y'.2 → TkX G (hput y' R (ob 4 ([.int (nI bs.length), va_rf (some e), .int (nI (k + r.length)), .int (nI k), va_rf none, .int en, .int (nI op), .int (nI ln), va_rf ch, va_rf (some X)].set 4 (va_rf tok)))) tok (tkO r) → ∀ y'', y'' = hput y' R (ob 4 ([.int (nI bs.length), va_rf (some e), .int (nI (k + r.length)), .int (nI k), va_rf none, .int en, .int (nI op), .int (nI ln), va_rf ch, va_rf (some X)].set 4 (va_rf tok))) → post y'' := by
      intro y' tok hq' w' hR' f' n' hT y'' hy''
      have R' : rdO y' R bs.length e X (k + r.length) k none en op ln ch := hR'.trans R7
      refine hp y'' tok ?_ ?_ (by rw [hy'']; exact hT) (fun a ha hne => ?_) ?_ hq'
      · rw [hy'']; exact w'.put R'
      · rw [hy'']; exact R'.tk
      · rw [hy'', hput_ne hne]; exact f' a ha hne
      · rw [hy'', hput_2]; exact n'
    have bad : (tkO r).1 = 5 → post y7 := fun h5 => hp y7 none w7 R7 (Or.inl ⟨Or.inr h5, rfl⟩) f7 (by omega) (fun q z => by cases z)
    refine ⟨by omega, fun _ _ => False, fun _ _ z => z.elim, rd7, xl_here R7 t7 (by omega) ⟨rd7, xl_letter hb256 ⟨fun hb => absurd (hout.1.symm.trans hb) (by decide), fun _ => ⟨rd7, xl_here R7 t7 (by omega) ⟨rd7, xl_digit hb256 ⟨fun _ => ?_, fun hb => absurd (hout.2.symm.trans hb) (by decide)⟩⟩⟩⟩⟩⟩
    refine ⟨fun y' u x => y' = y7 ∧ u = 2 ∧ x = nI r.length ∧ ¬ (r.countP isLt = r.length ∧ r.length ≤ 8), ?_, ?_⟩
    · rintro y66 u68 x67 ⟨rfl, rfl, rfl, c2⟩
      refine ⟨by omega, fun y' u => y' = y66 ∧ u = 2 ∧ ¬ (r.countP isLt = 0 ∧ r.length ≤ 3), ?_, ?_⟩
      · rintro y71 u72 ⟨rfl, rfl, c3⟩
        rw [hx]
        have b5 : ¬ (r.countP isLt = 1 ∧ r.length = 3) → (tkO r).1 = 5 := by
          intro hno
          unfold tkO
          rw [if_neg c2, if_neg c3, if_neg hno]
        refine ⟨by omega, fun z => bad (b5 (fun w => z (by rw [w.1]))), fun z => ⟨fun z2 => bad (b5 (fun w => z2 (by rw [w.2]))), fun z2 => ⟨rd7, 1, by omega, ?_⟩⟩⟩
        have e1 : r.countP isLt = 1 := (nI_eq (by omega) (by omega)).mp z
        have e3 : r.length = 3 := (nI_eq (by omega) (by omega)).mp z2
        have s7' : sbR y71 y.2 (y.2 + 1) r := by rw [show min r.length 9 = r.length by omega, List.take_length] at s7; exact s7
        refine xl_codeOf w7 s7' R7 hr e1 e3 (by omega) (fun tok y75 w75 f75 n75 hT => ?_)
        have R75 : y75.1 R = y71.1 R := f75 R (by omega)
        refine ⟨_, R75.trans R7, by show 4 < 10; omega, fun y79 hy79 => fin y75 tok (fun q _ z => absurd z (by rw [tkO_code e1 e3]; split; exact (by decide : (1 : Nat) ≠ 2); split; exact (by decide : (1 : Nat) ≠ 2); exact (by decide : (5 : Nat) ≠ 2))) w75 R75 (fun a ha hne => (f75 a (by omega)).trans (f7 a ha hne)) (by omega) (hT.put (R75.trans R7)) y79 hy79⟩
      · rw [hx]
        refine ⟨fun z => ⟨rfl, rfl, fun w => z (by rw [w.1]; rfl)⟩, fun z => ⟨fun z3 => ⟨rfl, rfl, fun w => ?_⟩, fun z3 => ⟨rd7, ?_⟩⟩⟩
        · have := (nI_ltI (by omega) (by omega)).mp z3
          omega
        · have e0 : r.countP isLt = 0 := (nI_eq (a := r.countP isLt) (b := 0) (by omega) (by omega)).mp z
          have e3 : r.length ≤ 3 := by
            rcases Nat.lt_or_ge 3 r.length with w | w
            · exact absurd (nI_lt w (by omega)) z3
            · exact w
          have s7' : sbR y66 y.2 (y.2 + 1) r := by rw [show min r.length 9 = r.length by omega, List.take_length] at s7; exact s7
          have eT : tkO r = (3, [], nmO r) := by unfold tkO; rw [if_neg c2, if_pos ⟨e0, e3⟩]
          have hdg : ∀ c ∈ r, 48 ≤ c := fun c hc => (ld_dg (hr c hc) (cnt0 e0 c hc)).1
          refine xl_numberOf (i := 0) s7' (Nat.zero_le _) hdg ⟨1, by omega, sp_valueOf w7 (Or.inr (Nat.le_refl _)) (fun tok y86 w86 _ _ n86 f86 hbx => ?_)⟩
          have R86 : y86.1 R = y66.1 R := f86 R (by omega)
          refine ⟨_, R86.trans R7, by show 4 < 10; omega, fun y89 hy89 => fin y86 tok (fun q _ z => absurd z (by rw [eT]; exact (by decide : (3 : Nat) ≠ 2))) w86 R86 (fun a ha hne => (f86 a (by omega)).trans (f7 a ha hne)) (by omega) ?_ y89 hy89⟩
          rw [eT]
          exact Or.inr (Or.inr (Or.inr (Or.inl ⟨rfl, bx.put hbx (R86.trans R7)⟩)))
    · refine ⟨_, ⟨_, R7, rfl⟩, _, ⟨_, R7, rfl⟩, fun x94 hx94 => ?_⟩
      have e94 : x94 = nI r.length := by rw [hx94, nI_sub (by omega)]; congr 1; omega
      rw [e94, hx]
      refine ⟨fun z => ⟨rfl, rfl, rfl, fun w => z (by rw [w.1])⟩, fun z => ⟨fun z8 => ⟨rfl, rfl, rfl, fun w => ?_⟩, fun z8 => ⟨⟨_, Or.inl s7.1⟩, 2, by omega, ?_⟩⟩⟩
      · have := (nI_ltI (by omega) (by omega)).mp z8
        omega
      · have e0 : r.countP isLt = r.length := (nI_eq (by omega) (by omega)).mp z
        have e8 : r.length ≤ 8 := by
          rcases Nat.lt_or_ge 8 r.length with w | w
          · exact absurd (nI_lt w (by omega)) z8
          · exact w
        have s7' : sbR y7 y.2 (y.2 + 1) r := by rw [show min r.length 9 = r.length by omega, List.take_length] at s7; exact s7
        have eT : tkO r = (2, r, 0) := by unfold tkO; rw [if_pos ⟨e0, e8⟩]
        refine sb_toString w7 s7' (by omega) (fun y97 bb w97 d1 d2 n97 f97 => ?_)
        have R97 : y97.1 R = y7.1 R := f97 R (by omega)
        refine ⟨_, R97.trans R7, by show 4 < 10; omega, fun y101 hy101 => fin y97 _ (fun q z _ => by cases z; omega) w97 R97 (fun a ha hne => (f97 a (by omega)).trans (f7 a ha hne)) (by omega) ?_ y101 hy101⟩
        rw [eT]
        refine Or.inr (Or.inr (Or.inl ⟨rfl, y7.2, bb, 0, 0, rfl, ?_, d2.put (R97.trans R7), Or.inl rfl, Or.inl rfl⟩))
        rw [hput_ne (by omega)]; exact d1
