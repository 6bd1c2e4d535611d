/-! The model reads its text: tokens -/
set_option maxRecDepth 100000
/-- the text that the model reads -/
def LX (σ : TS) (bs : List Nat) : Prop := sx σ 42 = nI bs.length ∧ bs.length ≤ 900 ∧ (∀ b ∈ bs, b < 256) ∧ ∀ j (h : j < bs.length), sf σ 0 j = nI bs[j]
def byI (bs : List Nat) (q : Nat) : Int32 := match bs[q]? with
  | none => -1
  | some c => nI c
theorem tn_byteAt {σ : TS} {bs : List Nat} {q : Nat} {post : Int32 → TS → Prop} (h : LX σ bs) (hq : q < 1000) (hp : post (byI bs q) σ) : wp_byteAt post σ (nI q) := by
  obtain ⟨h1, h2, h3, h4⟩ := h
  refine ⟨fun z => ?_, fun z => ?_⟩
  · rw [h1] at z
    have hle : bs.length ≤ q := (nI_leI (by omega) (by omega)).mp z
    unfold byI at hp
    rw [List.getElem?_eq_none hle] at hp
    exact hp
  · rw [h1] at z
    have hlt : q < bs.length := by
      rcases Nat.lt_or_ge q bs.length with y | y
      · exact y
      · exact absurd (nI_le y (by omega)) z
    unfold byI at hp
    rw [List.getElem?_eq_getElem hlt] at hp
    rw [nI_clamp (by omega), h4 q hlt]
    exact ⟨vp_inN (by omega) (by omega), hp⟩
theorem lt256 {bs : List Nat} {q c : Nat} (h : ∀ b ∈ bs, b < 256) (hc : bs[q]? = some c) : c < 256 := h c (List.mem_of_getElem? hc)
theorem tn_isSmall {σ : TS} {c : Nat} {post : Bool → TS → Prop} (h : c < 256) (hp : post (isLt c) σ) : wp_isSmall post σ (nI c) := by
  unfold isLt at hp
  refine ⟨fun z => ?_, fun z => ⟨fun y => ?_, fun y => ?_⟩⟩
  · have : c < 97 := (nI_ltI (by omega) (by omega)).mp z
    rw [show Nat.ble 97 c = false by rw [Bool.eq_false_iff]; exact fun w => absurd (Nat.le_of_ble_eq_true w) (by omega)] at hp
    exact hp
  · have : 122 < c := (nI_ltI (by omega) (by omega)).mp y
    rw [show Nat.ble c 122 = false by rw [Bool.eq_false_iff]; exact fun w => absurd (Nat.le_of_ble_eq_true w) (by omega), Bool.and_false] at hp
    exact hp
  · have h1 : 97 ≤ c := by
      rcases Nat.lt_or_ge c 97 with w | w
      · exact absurd (nI_lt w (by omega)) z
      · exact w
    have h2 : c ≤ 122 := by
      rcases Nat.lt_or_ge 122 c with w | w
      · exact absurd (nI_lt w (by omega)) y
      · exact w
    rw [Nat.ble_eq_true_of_le h1, Nat.ble_eq_true_of_le h2] at hp
    exact hp
theorem tn_isDigit {σ : TS} {c : Nat} {post : Bool → TS → Prop} (h : c < 256) (hp : post (isDg c) σ) : wp_isDigit post σ (nI c) := by
  unfold isDg at hp
  refine ⟨fun z => ?_, fun z => ⟨fun y => ?_, fun y => ?_⟩⟩
  · have : c < 48 := (nI_ltI (by omega) (by omega)).mp z
    rw [show Nat.ble 48 c = false by rw [Bool.eq_false_iff]; exact fun w => absurd (Nat.le_of_ble_eq_true w) (by omega)] at hp
    exact hp
  · have : 57 < c := (nI_ltI (by omega) (by omega)).mp y
    rw [show Nat.ble c 57 = false by rw [Bool.eq_false_iff]; exact fun w => absurd (Nat.le_of_ble_eq_true w) (by omega), Bool.and_false] at hp
    exact hp
  · have h1 : 48 ≤ c := by
      rcases Nat.lt_or_ge c 48 with w | w
      · exact absurd (nI_lt w (by omega)) z
      · exact w
    have h2 : c ≤ 57 := by
      rcases Nat.lt_or_ge 57 c with w | w
      · exact absurd (nI_lt w (by omega)) y
      · exact w
    rw [Nat.ble_eq_true_of_le h1, Nat.ble_eq_true_of_le h2] at hp
    exact hp
theorem tn_small_m {σ : TS} {post : Bool → TS → Prop} (hp : post false σ) : wp_isSmall post σ (-1) := ⟨fun _ => hp, fun z => absurd (by decide) z⟩
theorem tn_digit_m {σ : TS} {post : Bool → TS → Prop} (hp : post false σ) : wp_isDigit post σ (-1) := ⟨fun _ => hp, fun z => absurd (by decide) z⟩
/-- a letter of a run or not, and the rest -/
def isLtQ (bs : List Nat) (q : Nat) : Bool := match bs[q]? with
  | none => false
  | some c => isLt c
def isDgQ (bs : List Nat) (q : Nat) : Bool := match bs[q]? with
  | none => false
  | some c => isDg c
theorem tn_smallQ {σ : TS} {bs : List Nat} {q : Nat} {post : Bool → TS → Prop} (h : ∀ b ∈ bs, b < 256) (hp : post (isLtQ bs q) σ) : wp_isSmall post σ (byI bs q) := by
  unfold byI
  unfold isLtQ at hp
  cases hc : bs[q]? with
  | none => rw [hc] at hp; exact tn_small_m hp
  | some c => rw [hc] at hp; exact tn_isSmall (lt256 h hc) hp
theorem tn_digitQ {σ : TS} {bs : List Nat} {q : Nat} {post : Bool → TS → Prop} (h : ∀ b ∈ bs, b < 256) (hp : post (isDgQ bs q) σ) : wp_isDigit post σ (byI bs q) := by
  unfold byI
  unfold isDgQ at hp
  cases hc : bs[q]? with
  | none => rw [hc] at hp; exact tn_digit_m hp
  | some c => rw [hc] at hp; exact tn_isDigit (lt256 h hc) hp
def dgN (r : List Nat) : Nat := r.foldl (fun v c => if isDg c then 10 * v + (c - 48) else v) 0
theorem dgN_snoc (r : List Nat) (c : Nat) : dgN (r ++ [c]) = if isDg c then 10 * dgN r + (c - 48) else dgN r := by
  unfold dgN
  rw [List.foldl_append]
  rfl
theorem toI64 : ∀ c, c < 256 → (nI c).toInt64 = Int64.ofNat c := by decide +kernel
theorem take_snoc {r : List Nat} {j : Nat} (h : j < r.length) : r.take (j + 1) = r.take j ++ [r[j]] := by
  rw [List.take_succ, List.getElem?_eq_getElem h]
  rfl
theorem dg_of {r : List Nat} (h : ∀ c ∈ r, isLd c = true) (h2 : ∀ c ∈ r, isLt c = false) : dgN r = nmO r := by
  unfold dgN nmO
  have : ∀ (r : List Nat) (v : Nat), (∀ c ∈ r, isLd c = true) → (∀ c ∈ r, isLt c = false) → r.foldl (fun v c => if isDg c then 10 * v + (c - 48) else v) v = r.foldl (fun v c => 10 * v + (c - 48)) v := by
    intro r
    induction r with
    | nil => intro v _ _; rfl
    | cons a t ih =>
      intro v h1 h2
      have ha := h1 a (List.mem_cons_self ..)
      have hb := h2 a (List.mem_cons_self ..)
      unfold isLd at ha
      rw [hb, Bool.false_or] at ha
      rw [List.foldl_cons, List.foldl_cons, if_pos ha]
      exact ih _ (fun c hc => h1 c (List.mem_cons_of_mem _ hc)) (fun c hc => h2 c (List.mem_cons_of_mem _ hc))
  exact this r 0 h h2
/-- what a token changes -/
def NF (σ σ' : TS) : Prop := (∀ k, (k < 43 ∨ 51 < k) → sx σ' k = sx σ k) ∧ (∀ a j, sg σ' a j = sg σ a j) ∧ ∀ a j, sf σ' a j = sf σ a j
theorem NF.rf (σ : TS) : NF σ σ := ⟨fun _ _ => rfl, fun _ _ => rfl, fun _ _ => rfl⟩
theorem NF.tr {σ σ' σ'' : TS} (h : NF σ σ') (k : NF σ' σ'') : NF σ σ'' := ⟨fun i z => (k.1 i z).trans (h.1 i z), fun a j => (k.2.1 a j).trans (h.2.1 a j), fun a j => (k.2.2 a j).trans (h.2.2 a j)⟩
theorem NF.ux {σ σ' : TS} {k : Nat} {v : Int32} (h : NF σ σ') (hk : 43 ≤ k ∧ k ≤ 51) : NF σ (ux σ' k v) := ⟨fun i z => by rw [sx_ux, if_neg (by omega)]; exact h.1 i z, h.2.1, h.2.2⟩
theorem NF.uw {σ σ' : TS} {v : Int64} (h : NF σ σ') : NF σ (uw σ' v) := ⟨fun i z => h.1 i z, h.2.1, h.2.2⟩
theorem LX.nf {σ σ' : TS} {bs : List Nat} (h : LX σ bs) (k : NF σ σ') : LX σ' bs := ⟨(k.1 42 (by omega)).trans h.1, h.2.1, h.2.2.1, fun j hj => (k.2.2 0 j).trans (h.2.2.2 j hj)⟩
theorem ltQ_in {bs : List Nat} {k j : Nat} (h : j < (rnn bs k).length) : isLtQ bs (k + j) = isLt (rnn bs k)[j] ∧ isDgQ bs (k + j) = isDg (rnn bs k)[j] ∧ byI bs (k + j) = nI (rnn bs k)[j] ∧ (isLt (rnn bs k)[j] = false → isDg (rnn bs k)[j] = true) := by
  obtain ⟨h1, h2⟩ := rnn_at h
  unfold isLtQ isDgQ byI
  rw [h1]
  refine ⟨rfl, rfl, rfl, fun z => ?_⟩
  unfold isLd at h2
  rw [z, Bool.false_or] at h2
  exact h2
theorem ltQ_out {bs : List Nat} {k : Nat} : isLtQ bs (k + (rnn bs k).length) = false ∧ isDgQ bs (k + (rnn bs k).length) = false := by
  unfold isLtQ isDgQ
  cases hc : bs[k + (rnn bs k).length]? with
  | none => exact ⟨rfl, rfl⟩
  | some c =>
    have := rnn_stop hc
    unfold isLd at this
    rw [Bool.or_eq_false_iff] at this
    exact this
/-- what a run changes -/
def RNF (σ σ' : TS) : Prop := (∀ k, k ≠ 44 → k ≠ 45 → k ≠ 47 → sx σ' k = sx σ k) ∧ (∀ a j, sg σ' a j = sg σ a j) ∧ ∀ a j, sf σ' a j = sf σ a j
def R47 (σ σ' : TS) : Prop := (∀ k, k ≠ 47 → sx σ' k = sx σ k) ∧ (∀ a j, sg σ' a j = sg σ a j) ∧ ∀ a j, sf σ' a j = sf σ a j
theorem R47.lx {σ σ' : TS} {bs : List Nat} (h : LX σ bs) (k : R47 σ σ') : LX σ' bs := ⟨(k.1 42 (by omega)).trans h.1, h.2.1, h.2.2.1, fun j hj => (k.2.2 0 j).trans (h.2.2.2 j hj)⟩
theorem cnt_snoc {r : List Nat} {j : Nat} (h : j < r.length) : (r.take (j + 1)).countP isLt = (r.take j).countP isLt + (if isLt r[j] then 1 else 0) := by
  rw [take_snoc h, List.countP_append, List.countP_singleton]
theorem code_first {r : List Nat} (hr : ∀ c ∈ r, isLd c = true) (h1 : r.countP isLt = 1) (h3 : r.length = 3) (ha : isLt (r.getD 0 0) = true) : dgN r = nmO (r.drop 1) ∧ dgN r < 100 := by
  obtain ⟨a, t, rfl⟩ : ∃ a t, r = a :: t := by
    cases r with
    | nil => cases h3
    | cons a t => exact ⟨a, t, rfl⟩
  have ha' : isLt a = true := ha
  rw [List.countP_cons_of_pos ha'] at h1
  have ht := cnt0 (r := t) (by omega)
  have htl : t.length = 2 := by simpa using h3
  have hd : isDg a = false := by
    unfold isLt at ha'
    unfold isDg
    rw [Bool.and_eq_true, Nat.ble_eq, Nat.ble_eq] at ha'
    rw [show Nat.ble a 57 = false by rw [Bool.eq_false_iff]; exact fun w => absurd (Nat.le_of_ble_eq_true w) (by omega), Bool.and_false]
  have e1 : dgN (a :: t) = dgN t := by
    unfold dgN
    rw [List.foldl_cons, hd]
    rfl
  have e2 := dg_of (r := t) (fun c hc => hr c (List.mem_cons_of_mem _ hc)) ht
  have hb := nmO_lt t 0 (fun c hc => (ld_dg (hr c (List.mem_cons_of_mem _ hc)) (ht c hc)).2)
  rw [htl] at hb
  refine ⟨e1.trans e2, ?_⟩
  rw [e1, e2]
  unfold nmO
  omega
theorem tn_runs {σ : TS} {bs : List Nat} {k : Nat} {post : TS → Prop} (hX : LX σ bs) (hk : k ≤ bs.length) (h5 : sx σ 45 = nI 5) (h1 : 1 ≤ (rnn bs k).length)
    (hp : ∀ σ', RNF σ σ' → sx σ' 44 = nI (k + (rnn bs k).length) → sx σ' 45 = nI (tkO (rnn bs k)).1 → ((tkO (rnn bs k)).1 = 2 → sw σ' = pk (rnn bs k)) → (((tkO (rnn bs k)).1 = 1 ∨ (tkO (rnn bs k)).1 = 3) → sx σ' 47 = nI (tkO (rnn bs k)).2.2) → post σ') : wp_runs post σ (nI k) := by
  intro z1 hz1 z2 hz2
  have hle := rnn_le hk
  have hlen := hX.2.1
  have hr : ∀ c ∈ rnn bs k, isLd c = true := rnn_ld
  generalize hR : rnn bs k = r at *
  have q2 : R47 σ z2 := ⟨fun i hi => by rw [hz2, sx_ux, if_neg hi, hz1, sx_uw], fun a j => by rw [hz2, sg_ux, hz1, sg_uw], fun a j => by rw [hz2, sf_ux, hz1, sf_uw]⟩
  refine ⟨fun n z x y => ∃ j, j ≤ r.length ∧ n = r.length - j ∧ x = nI ((r.take j).countP isLt) ∧ y = nI (k + j) ∧ sw z = pk (r.take (min j 8)) ∧ sx z 47 = nI (dgN (r.take (min j 3))) ∧ R47 σ z, ⟨r.length, 0, by omega, by omega, rfl, rfl, ?_, ?_, q2⟩, ?_⟩
  · rw [hz2, sw_ux, hz1, sw_uw]; rfl
  · rw [hz2, sx_ux, if_pos rfl]; rfl
  intro n4 z5 x8 x9 ⟨j, hj, hn, hx8, hx9, hw, h47, hF⟩
  have hX5 := R47.lx hX hF
  have hsub : x9 - nI k = nI j := by rw [hx9, nI_sub (by omega)]; congr 1; omega
  rcases Nat.lt_or_ge j r.length with hlt | hge
  · have hin := ltQ_in (bs := bs) (k := k) (j := j) (by rw [hR]; exact hlt)
    have hcr : r[j] < 256 := by
      have hin2 := rnn_at (bs := bs) (k := k) (j := j) (by rw [hR]; exact hlt)
      have := lt256 hX.2.2.1 hin2.1
      simp only [hR] at this
      exact this
    simp only [hR] at hin
    obtain ⟨i1, i2, i3, i4⟩ := hin
    refine ⟨fun z => z = z5, ?_, ?_⟩
    · rintro z13 rfl
      refine ⟨fun z x c => z = z13 ∧ x = nI ((r.take (j + 1)).countP isLt) ∧ c = nI r[j], ?_, ?_⟩
      · rintro z16 x17 x18 ⟨rfl, hx17, hx18⟩
        refine ⟨fun z => R47 σ z ∧ sw z = pk (r.take (min (j + 1) 8)) ∧ sx z 47 = nI (dgN (r.take (min j 3))), ?_, ?_⟩
        · rintro z21 ⟨f21, w21, n21⟩
          rw [hsub]
          refine ⟨fun h3 => ⟨r.length - (j + 1), by omega, j + 1, by omega, rfl, hx17, by rw [hx9, nI_add, Nat.add_assoc], w21, ?_, f21⟩, fun h3 => ?_⟩
          · have : 3 ≤ j := (nI_leI (by omega) (by omega)).mp h3
            rw [n21, show min j 3 = 3 by omega, show min (j + 1) 3 = 3 by omega]
          · have hj3 : j < 3 := by
              rcases Nat.lt_or_ge j 3 with w | w
              · exact w
              · exact absurd (nI_le w (by omega)) h3
            rw [hx18]
            have e1 : dgN (r.take (min (j + 1) 3)) = if isDg r[j] then 10 * dgN (r.take (min j 3)) + (r[j] - 48) else dgN (r.take (min j 3)) := by
              rw [show min (j + 1) 3 = j + 1 by omega, show min j 3 = j by omega, take_snoc hlt, dgN_snoc]
            refine tn_isDigit hcr ⟨fun hb => ⟨r.length - (j + 1), by omega, j + 1, by omega, rfl, hx17, by rw [hx9, nI_add, Nat.add_assoc], w21, ?_, f21⟩, fun hb z28 hz28 => ⟨r.length - (j + 1), by omega, j + 1, by omega, rfl, hx17, by rw [hx9, nI_add, Nat.add_assoc], ?_, ?_, ?_⟩⟩
            · rw [n21, e1, hb]; rfl
            · rw [hz28, sw_ux]; exact w21
            · have hge48 : 48 ≤ r[j] := by
                unfold isDg at hb
                rw [Bool.and_eq_true, Nat.ble_eq] at hb
                exact hb.1
              rw [hz28, sx_ux, if_pos rfl, n21, e1, hb, if_pos rfl, nI_mul, nI_add, nI_sub (by omega)]
              congr 1
              omega
            · exact ⟨fun i hi => by rw [hz28, sx_ux, if_neg hi]; exact f21.1 i hi, fun a b => by rw [hz28, sg_ux]; exact f21.2.1 a b, fun a b => by rw [hz28, sf_ux]; exact f21.2.2 a b⟩
        · rw [hsub]
          refine ⟨fun h8 => ⟨hF, ?_, h47⟩, fun h8 z31 hz31 => ⟨⟨fun i hi => by rw [hz31, sx_uw]; exact hF.1 i hi, fun a b => by rw [hz31, sg_uw]; exact hF.2.1 a b, fun a b => by rw [hz31, sf_uw]; exact hF.2.2 a b⟩, ?_, by rw [hz31, sx_uw]; exact h47⟩⟩
          · have : 8 ≤ j := (nI_leI (by omega) (by omega)).mp h8
            rw [hw, show min j 8 = 8 by omega, show min (j + 1) 8 = 8 by omega]
          · have hj8 : j < 8 := by
              rcases Nat.lt_or_ge j 8 with w | w
              · exact w
              · exact absurd (nI_le w (by omega)) h8
            rw [hz31, sw_uw, hw, hx18, toI64 _ hcr, show min j 8 = j by omega, show min (j + 1) 8 = j + 1 by omega, take_snoc hlt, pk_snoc]
      · rw [hx9]
        refine tn_byteAt hX5 (by omega) (tn_smallQ hX.2.2.1 ⟨fun hb => ⟨rfl, ?_, i3⟩, fun hb => ⟨rfl, ?_, i3⟩⟩)
        · rw [i1] at hb
          rw [hx8, cnt_snoc hlt, hb]; rfl
        · rw [i1] at hb
          rw [hx8, cnt_snoc hlt, hb, nI_add]; rfl
    · rw [hx9]
      refine tn_byteAt hX5 (by omega) (tn_smallQ hX.2.2.1 ⟨fun _ => rfl, fun hb => tn_byteAt hX5 (by omega) (tn_digitQ hX.2.2.1 ⟨fun hd => ?_, fun _ => rfl⟩)⟩)
      rw [i1] at hb
      rw [i2, i4 hb] at hd
      cases hd
  · have ej : j = r.length := by omega
    have hout := ltQ_out (bs := bs) (k := k)
    rw [hR] at hout
    rw [ej] at hx8 hx9 hw h47 hsub
    rw [List.take_length] at hx8
    refine ⟨fun _ => False, fun _ z => z.elim, ?_⟩
    rw [hx9]
    refine tn_byteAt hX5 (by omega) (tn_smallQ hX.2.2.1 ⟨fun hb => absurd (hout.1.symm.trans hb) (by decide), fun _ => tn_byteAt hX5 (by omega) (tn_digitQ hX.2.2.1 ⟨fun _ => ?_, fun hb => absurd (hout.2.symm.trans hb) (by decide)⟩)⟩)
    have hcle : r.countP isLt ≤ r.length := List.countP_le_length
    refine ⟨fun z l => l = nI r.length ∧ (∀ i, i ≠ 44 → i ≠ 45 → sx z i = sx z5 i) ∧ (∀ a b, sg z a b = sg z5 a b) ∧ (∀ a b, sf z a b = sf z5 a b) ∧ sw z = sw z5 ∧ sx z 44 = nI (k + r.length) ∧ sx z 45 = (if r.countP isLt = r.length ∧ r.length ≤ 8 then nI 2 else nI 5), ?_, ?_⟩
    · rintro z51 x52 ⟨hx52, g1, g2, g3, g4, g5, g6⟩
      refine ⟨fun z => (∀ i, i ≠ 44 → i ≠ 45 → sx z i = sx z5 i) ∧ (∀ a b, sg z a b = sg z5 a b) ∧ (∀ a b, sf z a b = sf z5 a b) ∧ sw z = sw z5 ∧ sx z 44 = nI (k + r.length) ∧ sx z 45 = (if r.countP isLt = r.length ∧ r.length ≤ 8 then nI 2 else if r.countP isLt = 0 ∧ r.length ≤ 3 then nI 3 else nI 5), ?_, ?_⟩
      · rintro z55 ⟨m1, m2, m3, m4, m5, m6⟩
        have hRN : RNF σ z55 := ⟨fun i a b c => (m1 i a b).trans (hF.1 i c), fun a b => (m2 a b).trans (hF.2.1 a b), fun a b => (m3 a b).trans (hF.2.2 a b)⟩
        -- the two kinds that need no letter first
        have fin : ¬ (r.countP isLt = 1 ∧ r.length = 3 ∧ ((97 ≤ r.getD 0 0 ∧ r.getD 0 0 ≤ 106) ∨ (112 ≤ r.getD 0 0 ∧ r.getD 0 0 ≤ 116))) → post z55 := by
          intro hno
          by_cases c2 : r.countP isLt = r.length ∧ r.length ≤ 8
          · have e : tkO r = (2, r, 0) := by unfold tkO; rw [if_pos c2]
            refine hp z55 hRN m5 (by rw [m6, if_pos c2, e]) (fun _ => by rw [m4, hw, show min r.length 8 = r.length by omega, List.take_length]) (fun z => ?_)
            rw [e] at z
            rcases z with z | z <;> cases z
          · by_cases c3 : r.countP isLt = 0 ∧ r.length ≤ 3
            · have e : tkO r = (3, [], nmO r) := by unfold tkO; rw [if_neg c2, if_pos c3]
              refine hp z55 hRN m5 (by rw [m6, if_neg c2, if_pos c3, e]) (fun z => ?_) (fun _ => ?_)
              · rw [e] at z; cases z
              · rw [m1 47 (by omega) (by omega), h47, e, show min r.length 3 = r.length by omega, List.take_length, dg_of hr (cnt0 c3.1)]
            · have e : (tkO r).1 = 5 := by
                unfold tkO
                rw [if_neg c2, if_neg c3]
                split
                · next h =>
                  rw [if_neg (fun w => hno ⟨h.1, h.2, Or.inl w⟩), if_neg (fun w => hno ⟨h.1, h.2, Or.inr w⟩)]
                · rfl
              refine hp z55 hRN m5 (by rw [m6, if_neg c2, if_neg c3, e]) (fun z => ?_) (fun z => ?_)
              · rw [e] at z; cases z
              · rw [e] at z; rcases z with z | z <;> cases z
        rw [hx52, hx8]
        refine ⟨fun h => fin (fun w => h (by rw [w.2.1])), fun h => ⟨fun h' => fin (fun w => h' (by rw [w.1])), fun h' => ?_⟩⟩
        have hl3 : r.length = 3 := (nI_eq (by omega) (by omega)).mp h
        have hc1 : r.countP isLt = 1 := (nI_eq (by omega) (by omega)).mp h'
        have hk2 : k < bs.length := by omega
        have hb0 : bs[k] = r.getD 0 0 := by
          have hh := (rnn_at (bs := bs) (k := k) (j := 0) (by rw [hR]; omega)).1
          simp only [hR] at hh
          rw [Nat.add_zero, List.getElem?_eq_getElem hk2] at hh
          rw [Option.some.inj hh]
          rw [List.getD_eq_getElem?_getD, List.getElem?_eq_getElem (by omega)]
          rfl
        have hX55 : LX z55 bs := ⟨(hRN.1 42 (by omega) (by omega) (by omega)).trans hX.1, hX.2.1, hX.2.2.1, fun j hj => (hRN.2.2 0 j).trans (hX.2.2.2 j hj)⟩
        have hf0 : sf z55 0 (nI k).toNatClampNeg = nI (r.getD 0 0) := by rw [nI_clamp (by omega), hX55.2.2.2 k hk2, hb0]
        have h256 : r.getD 0 0 < 256 := by rw [← hb0]; exact hX.2.2.1 _ (List.getElem_mem hk2)
        rw [hf0]
        refine ⟨vp_inN (by omega) (by omega), tn_isSmall h256 ⟨fun hb => fin (fun w => ?_), fun hb => ⟨vp_inN (by omega) (by omega), ?_⟩⟩⟩
        · unfold isLt at hb
          rw [Nat.ble_eq_true_of_le (by rcases w.2.2 with w | w <;> omega), Nat.ble_eq_true_of_le (by rcases w.2.2 with w | w <;> omega)] at hb
          cases hb
        · rw [hf0]
          obtain ⟨d1, d2⟩ := code_first hr hc1 hl3 hb
          have hn47 : sx z55 47 = nI (nmO (r.drop 1)) := by rw [m1 47 (by omega) (by omega), h47, hl3, show min 3 3 = r.length by omega, List.take_length, d1]
          have c2 : ¬ (r.countP isLt = r.length ∧ r.length ≤ 8) := by omega
          have c3 : ¬ (r.countP isLt = 0 ∧ r.length ≤ 3) := by omega
          refine tsp_within ⟨fun hw1 => tsp_within ⟨fun hw2 => fin (fun w => ?_), fun hw2 => ?_⟩, fun hw1 => ?_⟩
          · rcases w.2.2 with w | w
            · exact absurd hw1 (by rw [wthn_iff.mpr ⟨by rw [nI_toInt (by omega), nI_toInt (by omega)]; omega, by rw [nI_toInt (by omega), nI_toInt (by omega)]; omega⟩]; decide)
            · exact absurd hw2 (by rw [wthn_iff.mpr ⟨by rw [nI_toInt (by omega), nI_toInt (by omega)]; omega, by rw [nI_toInt (by omega), nI_toInt (by omega)]; omega⟩]; decide)
          · intro z7 hz7 z8 hz8
            have hb2 := wthn_iff.mp hw2
            rw [nI_toInt (by omega), nI_toInt (by omega), nI_toInt (by omega)] at hb2
            have n1 : ¬ (97 ≤ r.getD 0 0 ∧ r.getD 0 0 ≤ 106) := by omega
            have e : tkO r = (1, [], 1000 + 100 * (r.getD 0 0 - 112) + nmO (r.drop 1)) := by
              unfold tkO
              rw [if_neg c2, if_neg c3, if_pos ⟨hc1, hl3⟩, if_neg n1, if_pos (by omega)]
            refine hp z8 ⟨fun i a b c => ?_, fun a b => ?_, fun a b => ?_⟩ ?_ ?_ (fun z => ?_) (fun _ => ?_)
            · rw [hz8, sx_ux, if_neg c, hz7, sx_ux, if_neg b]; exact hRN.1 i a b c
            · rw [hz8, sg_ux, hz7, sg_ux]; exact hRN.2.1 a b
            · rw [hz8, sf_ux, hz7, sf_ux]; exact hRN.2.2 a b
            · rw [hz8, sx_ux, if_neg (by omega), hz7, sx_ux, if_neg (by omega)]; exact m5
            · rw [hz8, sx_ux, if_neg (by omega), hz7, sx_ux, if_pos rfl, e]
            · rw [e] at z; cases z
            · rw [hz8, sx_ux, if_pos rfl, hz7, sx_ux, if_neg (by omega), hn47, e, nI_sub (by omega), nI_mul, nI_add, nI_add]
              show nI _ = nI (1000 + 100 * (r.getD 0 0 - 112) + nmO (r.drop 1))
              congr 1
              omega
          · intro z7 hz7 z8 hz8
            have hb2 := wthn_iff.mp hw1
            rw [nI_toInt (by omega), nI_toInt (by omega), nI_toInt (by omega)] at hb2
            have e : tkO r = (1, [], 100 * (r.getD 0 0 - 97) + nmO (r.drop 1)) := by
              unfold tkO
              rw [if_neg c2, if_neg c3, if_pos ⟨hc1, hl3⟩, if_pos (by omega)]
            refine hp z8 ⟨fun i a b c => ?_, fun a b => ?_, fun a b => ?_⟩ ?_ ?_ (fun z => ?_) (fun _ => ?_)
            · rw [hz8, sx_ux, if_neg c, hz7, sx_ux, if_neg b]; exact hRN.1 i a b c
            · rw [hz8, sg_ux, hz7, sg_ux]; exact hRN.2.1 a b
            · rw [hz8, sf_ux, hz7, sf_ux]; exact hRN.2.2 a b
            · rw [hz8, sx_ux, if_neg (by omega), hz7, sx_ux, if_neg (by omega)]; exact m5
            · rw [hz8, sx_ux, if_neg (by omega), hz7, sx_ux, if_pos rfl, e]
            · rw [e] at z; cases z
            · rw [hz8, sx_ux, if_pos rfl, hz7, sx_ux, if_neg (by omega), hn47, e, nI_sub (by omega), nI_mul, nI_add]
              show nI _ = nI (100 * (r.getD 0 0 - 97) + nmO (r.drop 1))
              congr 1
              omega
      · rw [hx52, hx8]
        refine ⟨fun h => ⟨g1, g2, g3, g4, g5, ?_⟩, fun h => ⟨fun h3 => ⟨g1, g2, g3, g4, g5, ?_⟩, fun h3 z64 hz64 => ⟨fun i a b => by rw [hz64, sx_ux, if_neg b]; exact g1 i a b, fun a b => by rw [hz64, sg_ux]; exact g2 a b, fun a b => by rw [hz64, sf_ux]; exact g3 a b, by rw [hz64, sw_ux]; exact g4, by rw [hz64, sx_ux, if_neg (by omega)]; exact g5, ?_⟩⟩⟩
        · have : ¬ r.countP isLt = 0 := fun w => h (by rw [w]; rfl)
          rw [g6, if_neg (c := r.countP isLt = 0 ∧ r.length ≤ 3) (by omega)]
        · have : 3 < r.length := (nI_ltI (by omega) (by omega)).mp h3
          rw [g6, if_neg (c := r.countP isLt = 0 ∧ r.length ≤ 3) (by omega)]
        · have h0 : r.countP isLt = 0 := (nI_eq (a := r.countP isLt) (b := 0) (by omega) (by omega)).mp h
          have hl3 : r.length ≤ 3 := by
            rcases Nat.lt_or_ge 3 r.length with w | w
            · exact absurd (nI_lt w (by omega)) h3
            · exact w
          rw [hz64, sx_ux, if_pos rfl, if_neg (by omega), if_pos ⟨h0, hl3⟩]
    · intro z66 hz66 x67 hx67
      rw [← hx9, hsub] at hx67
      rw [hx67, hx8]
      have b1 : ∀ i, i ≠ 44 → i ≠ 45 → sx z66 i = sx z5 i := fun i a b => by rw [hz66, sx_ux, if_neg a]
      have b2 : ∀ a b, sg z66 a b = sg z5 a b := fun a b => by rw [hz66, sg_ux]
      have b3 : ∀ a b, sf z66 a b = sf z5 a b := fun a b => by rw [hz66, sf_ux]
      have b4 : sw z66 = sw z5 := by rw [hz66, sw_ux]
      have b5 : sx z66 44 = nI (k + r.length) := by rw [hz66, sx_ux, if_pos rfl]
      have b6 : sx z66 45 = nI 5 := by rw [hz66, sx_ux, if_neg (by omega), hF.1 45 (by omega), h5]
      refine ⟨fun h => ⟨rfl, b1, b2, b3, b4, b5, ?_⟩, fun h => ⟨fun h8 => ⟨rfl, b1, b2, b3, b4, b5, ?_⟩, fun h8 z70 hz70 => ⟨rfl, fun i a b => by rw [hz70, sx_ux, if_neg b]; exact b1 i a b, fun a b => by rw [hz70, sg_ux]; exact b2 a b, fun a b => by rw [hz70, sf_ux]; exact b3 a b, by rw [hz70, sw_ux]; exact b4, by rw [hz70, sx_ux, if_neg (by omega)]; exact b5, ?_⟩⟩⟩
      · rw [b6, if_neg (fun w => h (by rw [w.1]))]
      · have : 8 < r.length := (nI_ltI (by omega) (by omega)).mp h8
        rw [b6, if_neg (by omega)]
      · have h0 : r.countP isLt = r.length := (nI_eq (by omega) (by omega)).mp h
        have hl8 : r.length ≤ 8 := by
          rcases Nat.lt_or_ge 8 r.length with w | w
          · exact absurd (nI_lt w (by omega)) h8
          · exact w
        rw [hz70, sx_ux, if_pos rfl, if_pos ⟨h0, hl8⟩]
/-- the token that the model holds -/
def LT (σ : TS) (l : LxS) : Prop := sx σ 43 = nI l.1 ∧ sx σ 44 = nI l.2.2 ∧ sx σ 45 = nI l.2.1.1 ∧ (l.2.1.1 = 2 → sw σ = pk l.2.1.2.1) ∧ ((l.2.1.1 = 1 ∨ l.2.1.1 = 3 ∨ l.2.1.1 = 4) → sx σ 47 = nI l.2.1.2.2)
theorem nI_ne {a b : Nat} (h : a ≠ b) (ha : a < 2 ^ 31) (hb : b < 2 ^ 31) : ¬ nI a = nI b := fun z => h ((nI_eq ha hb).mp z)
theorem sg_cs {c : Nat} (h : isSg c = true) : c = 40 ∨ c = 41 ∨ c = 44 ∨ c = 59 ∨ c = 60 ∨ c = 62 := by
  unfold isSg at h
  simp only [Bool.or_eq_true, beq_iff_eq] at h
  omega
theorem tn_next {σ : TS} {bs : List Nat} {p : Nat} {post : TS → Prop} (hX : LX σ bs) (hp0 : sx σ 44 = nI p) (hpl : p ≤ bs.length) (h0 : sx σ 48 = 0) (hp : ∀ σ', NF σ σ' → sx σ' 48 = 0 → LT σ' (lex bs p) → (∀ k, 49 ≤ k → sx σ' k = sx σ k) → post σ') : wp_next post σ := by
  refine ⟨fun _ x2 hx2 => ?_, fun z => absurd (by rw [h0]; decide) z⟩
  have hlen := hX.2.1
  have hsk := skp_le hpl
  have hsg := skp_ge bs p
  refine ⟨fun n z x => ∃ q, p ≤ q ∧ q ≤ skp bs p ∧ n = skp bs p - q ∧ z = σ ∧ x = nI q, ⟨_, p, Nat.le_refl _, hsg, rfl, rfl, hx2.trans hp0⟩, ?_⟩
  rintro n4 z5 x8 ⟨q, hq1, hq2, hn, rfl, hx8⟩
  rw [hx8]
  rcases Nat.lt_or_ge q (skp bs p) with hlt | hge
  · obtain ⟨c, hc, hcw⟩ := skp_in hq1 hlt
    have hby : byI bs q = nI c := by unfold byI; rw [hc]
    have hnx : ∃ n13, n13 < n4 ∧ ∃ q', p ≤ q' ∧ q' ≤ skp bs p ∧ n13 = skp bs p - q' ∧ z5 = z5 ∧ nI q + nI 1 = nI q' := ⟨skp bs p - (q + 1), by omega, q + 1, by omega, by omega, rfl, rfl, nI_add q 1⟩
    refine tn_byteAt hX (by omega) ⟨fun _ => hnx, fun h32 => tn_byteAt hX (by omega) ⟨fun h10 => ?_, fun _ => hnx⟩⟩
    rw [hby] at h32 h10
    unfold isWs at hcw
    simp only [Bool.or_eq_true, beq_iff_eq] at hcw
    rcases hcw with w | w
    · exact absurd (by rw [w]) h32
    · exact absurd (by rw [w]) h10
  · have eq : q = skp bs p := by omega
    subst eq
    have nws : byI bs (skp bs p) ≠ nI 32 ∧ byI bs (skp bs p) ≠ nI 10 := by
      unfold byI
      cases hc : bs[skp bs p]? with
      | none => exact ⟨by decide, by decide⟩
      | some c =>
        have h1 := skp_stop hc
        have h2 := lt256 hX.2.2.1 hc
        unfold isWs at h1
        simp only [Bool.or_eq_false_iff, beq_eq_false_iff_ne] at h1
        exact ⟨nI_ne h1.1 (by omega) (by omega), nI_ne h1.2 (by omega) (by omega)⟩
    refine tn_byteAt hX (by omega) ⟨fun z => absurd z nws.1, fun _ => tn_byteAt hX (by omega) ⟨fun _ z17 hz17 z18 hz18 => ?_, fun z => absurd z nws.2⟩⟩
    have f18 : NF z5 z18 := by rw [hz18, hz17]; exact ((NF.rf _).ux (by omega)).ux (by omega)
    refine tn_byteAt (hX.nf f18) (by omega) ?_
    intro z21 hz21 z22 hz22
    have f22 : NF z5 z22 := by rw [hz22, hz21]; exact (f18.ux (by omega)).ux (by omega)
    have v43 : sx z22 43 = nI (skp bs p) := by rw [hz22, sx_ux, if_neg (by omega), hz21, sx_ux, if_neg (by omega), hz18, sx_ux, if_neg (by omega), hz17, sx_ux, if_pos rfl]
    have v44 : sx z22 44 = nI (skp bs p + 1) := by rw [hz22, sx_ux, if_neg (by omega), hz21, sx_ux, if_neg (by omega), hz18, sx_ux, if_pos rfl, nI_add]
    have v45 : sx z22 45 = nI 5 := by rw [hz22, sx_ux, if_neg (by omega), hz21, sx_ux, if_pos rfl]
    have v47 : sx z22 47 = byI bs (skp bs p) := by rw [hz22, sx_ux, if_pos rfl]
    have v48 : sx z22 48 = 0 := by rw [hz22, sx_ux, if_neg (by omega), hz21, sx_ux, if_neg (by omega), hz18, sx_ux, if_neg (by omega), hz17, sx_ux, if_neg (by omega)]; exact h0
    have v49 : ∀ k, 49 ≤ k → sx z22 k = sx z5 k := fun k hk => by rw [hz22, sx_ux, if_neg (by omega), hz21, sx_ux, if_neg (by omega), hz18, sx_ux, if_neg (by omega), hz17, sx_ux, if_neg (by omega)]
    have vw : sw z22 = sw z5 := by rw [hz22, sw_ux, hz21, sw_ux, hz18, sw_ux, hz17, sw_ux]
    cases hc : bs[skp bs p]? with
    | none =>
      have hby : byI bs (skp bs p) = -1 := by unfold byI; rw [hc]
      refine ⟨fun z => absurd hby z, fun _ z47 hz47 z48 hz48 => ?_⟩
      refine hp z48 (by rw [hz48, hz47]; exact (f22.ux (by omega)).ux (by omega)) ?_ ?_ ?_
      · rw [hz48, sx_ux, if_neg (by omega), hz47, sx_ux, if_neg (by omega)]; exact v48
      · rw [lex_none hc]
        refine ⟨?_, ?_, ?_, fun z => (by cases z), fun z => (by rcases z with z | z | z <;> cases z)⟩
        · rw [hz48, sx_ux, if_neg (by omega), hz47, sx_ux, if_neg (by omega)]; exact v43
        · rw [hz48, sx_ux, if_pos rfl]
        · rw [hz48, sx_ux, if_neg (by omega), hz47, sx_ux, if_pos rfl]
      · intro k hk
        rw [hz48, sx_ux, if_neg (by omega), hz47, sx_ux, if_neg (by omega)]; exact v49 k hk
    | some c =>
      have hby : byI bs (skp bs p) = nI c := by unfold byI; rw [hc]
      have hc2 := lt256 hX.2.2.1 hc
      have hlt : skp bs p < bs.length := by
        rcases Nat.lt_or_ge (skp bs p) bs.length with z | z
        · exact z
        · rw [List.getElem?_eq_none z] at hc; cases hc
      rw [hby] at v47 ⊢
      have sgn : isSg c = true → ∀ z25, z25 = ux z22 45 (nI 4) → post z25 := by
        intro hs z25 hz25
        have hld : isLd c = false := by
          rcases sg_cs hs with w | w | w | w | w | w <;> subst w <;> decide
        refine hp z25 (by rw [hz25]; exact f22.ux (by omega)) ?_ ?_ ?_
        · rw [hz25, sx_ux, if_neg (by omega)]; exact v48
        · rw [lex_sg hc hld hs]
          refine ⟨?_, ?_, ?_, fun z => (by cases z), fun _ => ?_⟩
          · rw [hz25, sx_ux, if_neg (by omega)]; exact v43
          · rw [hz25, sx_ux, if_neg (by omega)]; exact v44
          · rw [hz25, sx_ux, if_pos rfl]
          · rw [hz25, sx_ux, if_neg (by omega)]; exact v47
        · intro k hk
          rw [hz25, sx_ux, if_neg (by omega)]; exact v49 k hk
      have cs : ∀ m, m < 256 → nI c = nI m → c = m := fun m hm z => (nI_eq (by omega) (by omega)).mp z
      refine ⟨fun _ => ⟨fun h => sgn (by rw [cs 40 (by omega) h]; decide), fun h40 => ⟨fun h => sgn (by rw [cs 41 (by omega) h]; decide), fun h41 => ⟨fun h => sgn (by rw [cs 44 (by omega) h]; decide), fun h44 => ⟨fun h => sgn (by rw [cs 59 (by omega) h]; decide), fun h59 => ⟨fun h => sgn (by rw [cs 60 (by omega) h]; decide), fun h60 => ⟨fun h62 => ?_, fun h => sgn (by rw [cs 62 (by omega) h]; decide)⟩⟩⟩⟩⟩⟩, fun z => absurd z (by rw [show (-1 : Int32) = nI 4294967295 by decide]; intro w; exact absurd (congrArg Int32.toInt w) (by rw [nI_toInt (by omega)]; intro v; rw [show (nI 4294967295).toInt = -1 by decide] at v; omega))⟩
      have hns : isSg c = false := by
        rw [Bool.eq_false_iff]
        intro w
        rcases sg_cs w with w | w | w | w | w | w
        · exact h40 (by rw [w])
        · exact h41 (by rw [w])
        · exact h44 (by rw [w])
        · exact h59 (by rw [w])
        · exact h60 (by rw [w])
        · exact h62 (by rw [w])
      have run : isLd c = true → wp_runs (fun z38 => post z38) z22 (nI (skp bs p)) := by
        intro hl
        refine tn_runs (hX.nf f22) hsk v45 (rnn_pos hc hl) (fun z38 g1 g2 g3 g4 g5 => hp z38 ?_ ?_ ?_ ?_)
        · exact f22.tr ⟨fun i hi => g1.1 i (by omega) (by omega) (by omega), g1.2.1, g1.2.2⟩
        · rw [g1.1 48 (by omega) (by omega) (by omega)]; exact v48
        · rw [lex_run hc hl]
          have hb := tkO_b (r := rnn bs (skp bs p)) rnn_ld (rnn_pos hc hl)
          refine ⟨(g1.1 43 (by omega) (by omega) (by omega)).trans v43, g2, g3, fun z => ?_, fun z => ?_⟩
          · rw [g4 z]
            show pk _ = pk (tkO _).2.1
            rw [(hb.2.2.2.2.1 z).1]
          · rcases z with z | z | z
            · exact g5 (Or.inl z)
            · exact g5 (Or.inr z)
            · exact absurd z hb.2.2.1
        · intro k hk
          rw [g1.1 k (by omega) (by omega) (by omega)]; exact v49 k hk
      have bad : isLd c = false → post z22 := by
        intro hl
        refine hp z22 f22 v48 ?_ v49
        rw [lex_bad hc hl hns]
        exact ⟨v43, v44, v45, fun z => (by cases z), fun z => (by rcases z with z | z | z <;> cases z)⟩
      refine ⟨fun z => z = z22 ∧ isLd c = true, fun z37 hz => ?_, tn_isSmall hc2 ⟨fun hb => ⟨rfl, by unfold isLd; rw [hb]; rfl⟩, fun hb => tn_isDigit hc2 ⟨fun hd => bad (by unfold isLd; rw [hb, hd]; rfl), fun hd => ⟨rfl, by unfold isLd; rw [hd, Bool.or_true]⟩⟩⟩⟩
      rw [hz.1]
      exact run hz.2
