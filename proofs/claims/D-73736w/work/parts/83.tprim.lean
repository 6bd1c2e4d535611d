/-! The model's parser: words, signs, names, spans, numbers -/
set_option maxRecDepth 100000
def LK (bs : List Nat) (σ : TS) (l : LxS) : Prop := LX σ bs ∧ sx σ 48 = 0 ∧ LT σ l ∧ tkB bs l
def FL (σ : TS) (f : Nat) : Prop := sx σ 48 = nI f ∧ 0 < f ∧ f < 10000
theorem FL.ne {σ : TS} {f : Nat} (h : FL σ f) : ¬ sx σ 48 = 0 := by
  rw [h.1]
  exact fun z => absurd ((nI_eq (a := f) (b := 0) (by have := h.2.2; omega) (by omega)).mp z) (by have := h.2.1; omega)
theorem FL.nle {σ : TS} {f : Nat} (h : FL σ f) : ¬ sx σ 48 ≤ 0 := by
  rw [h.1]
  exact nI_ge (a := 0) h.2.1 (by have := h.2.2; omega)
theorem LK.le {bs : List Nat} {σ : TS} {l : LxS} (h : LK bs σ l) : sx σ 48 ≤ 0 := by rw [h.2.1]; decide
theorem tb_next {σ : TS} {f : Nat} {post : TS → Prop} (h : FL σ f) (hp : post σ) : wp_next post σ := ⟨fun z => absurd z h.nle, fun _ => hp⟩
theorem tb_isWord {σ : TS} {f k : Nat} {post : Bool → TS → Prop} (h : FL σ f) (hp : post false σ) : wp_isWord post σ k := ⟨fun _ => hp, fun z => absurd z h.ne⟩
theorem tb_isSign {σ : TS} {f : Nat} {k : Int32} {post : Bool → TS → Prop} (h : FL σ f) (hp : post false σ) : wp_isSign post σ k := ⟨fun _ => hp, fun z => absurd z h.ne⟩
theorem tb_wrong {σ : TS} {f : Nat} {k : Int32} {post : TS → Prop} (h : FL σ f) (hp : post σ) : wp_wrong post σ k := ⟨fun _ => hp, fun z => absurd z h.ne⟩
theorem tb_lineEnds {σ : TS} {f : Nat} {post : TS → Prop} (h : FL σ f) (hp : post σ) : wp_lineEnds post σ := ⟨fun _ => hp, fun z => absurd z h.ne⟩
theorem tn_wrongAt {σ : TS} {k p : Nat} {post : TS → Prop} (h0 : sx σ 48 = 0) (hk : 1 ≤ k ∧ k ≤ 7) (hp : p ≤ 900) (hq : ∀ σ', NF σ σ' → FL σ' (8 * p + k) → post σ') : wp_wrongAt post σ (nI k) (nI p) := by
  refine ⟨fun z => absurd h0 z, fun _ z2 hz2 => hq z2 (by rw [hz2]; exact (NF.rf σ).ux (by omega)) ⟨?_, by omega, by omega⟩⟩
  rw [hz2, sx_ux, if_pos rfl, nI_mul, nI_add]
theorem LK.at {bs : List Nat} {σ : TS} {l : LxS} (h : LK bs σ l) : l.1 ≤ 900 := by
  have h1 := h.2.2.2.1
  have h2 := h.2.2.2.2.1
  have h3 := h.1.2.1
  omega
theorem tn_wrong {bs : List Nat} {σ : TS} {s : PS} {k : Nat} {α : Type} {post : TS → Prop} (h : LK bs σ s.1) (hk : 1 ≤ k ∧ k ≤ 7) (hq : ∀ σ' f, NF σ σ' → FL σ' f → (er s k : Except Nat α) = .error f → post σ') : wp_wrong post σ (nI k) := by
  unfold wp_wrong
  rw [h.2.2.1.1]
  exact tn_wrongAt h.2.1 hk h.at (fun σ' n f => hq σ' _ n f rfl)
theorem LK.nf {bs : List Nat} {σ σ' : TS} {l l' : LxS} (h : LK bs σ l) (n : NF σ σ') (h0 : sx σ' 48 = 0) (hl : LT σ' l') (hb : tkB bs l') : LK bs σ' l' := ⟨h.1.nf n, h0, hl, hb⟩
theorem tn_nxt {bs : List Nat} {σ : TS} {s : PS} {post : TS → Prop} (h : LK bs σ s.1) (hp : ∀ σ', NF σ σ' → LK bs σ' (nxt bs s).1 → (∀ k, 49 ≤ k → sx σ' k = sx σ k) → post σ') : wp_next post σ := by
  have hb := h.2.2.2.2.1
  refine tn_next h.1 h.2.2.1.2.1 hb h.2.1 (fun σ' n h0 hl h49 => hp σ' n (h.nf n h0 hl (lex_b hb).1) h49)
theorem wd_nm : ∀ k, k < 20 → isNm (wd k) := by
  intro k hk
  have : ∀ k : Nat, k < 20 → (wd k).length ≤ 8 ∧ 1 ≤ (wd k).length ∧ ∀ b ∈ wd k, 97 ≤ b ∧ b ≤ 122 := by decide +kernel
  have h := this k hk
  exact ⟨h.2.1, h.1, h.2.2⟩
theorem lt_iff {c : Nat} : isLt c = true ↔ 97 ≤ c ∧ c ≤ 122 := by unfold isLt; rw [Bool.and_eq_true, Nat.ble_eq, Nat.ble_eq]
theorem tkB.nm {bs : List Nat} {l : LxS} (h : tkB bs l) (h2 : l.2.1.1 = 2) : isNm l.2.1.2.1 := by
  obtain ⟨_, _, _, _, h5, _⟩ := h
  obtain ⟨_, a, b, c⟩ := h5 h2
  exact ⟨b, a, fun x hx => lt_iff.mp (c x hx)⟩
theorem tn_isWord {bs : List Nat} {σ : TS} {s : PS} {k : Nat} {post : Bool → TS → Prop} (h : LK bs σ s.1) (hk : k < 20) (hp : post (isW s k) σ) : wp_isWord post σ k := by
  obtain ⟨hX, h0, ⟨l1, l2, l3, l4, l5⟩, hb⟩ := h
  unfold isW at hp
  have hk5 := hb.2.2.2.2.2.2.2.1
  refine ⟨fun z => absurd h0 z, fun _ => ⟨fun z => ?_, fun z => ?_⟩⟩
  · rw [l3] at z
    rw [decide_eq_false (fun w => z (congrArg nI w.1))] at hp
    exact hp
  · rw [l3] at z
    have h2 : s.1.2.1.1 = 2 := (nI_eq (by omega) (by omega)).mp z
    refine ⟨hk, ?_⟩
    have e : sw σ = pkv k ↔ pW s = wd k := by
      rw [l4 h2]
      exact pk_inj (hb.nm h2) (wd_nm k hk)
    refine ⟨fun w => ?_, fun w => ?_⟩
    · rw [decide_eq_false (fun v => w (e.mpr v.2))] at hp; exact hp
    · rw [decide_eq_true ⟨h2, e.mp w⟩] at hp; exact hp
theorem tn_isSign {bs : List Nat} {σ : TS} {s : PS} {c : Nat} {post : Bool → TS → Prop} (h : LK bs σ s.1) (hc : c < 100) (hp : post (isS s c) σ) : wp_isSign post σ (nI c) := by
  obtain ⟨hX, h0, ⟨l1, l2, l3, l4, l5⟩, hb⟩ := h
  unfold isS at hp
  have hk5 := hb.2.2.2.2.2.2.2.1
  have hn := hb.2.2.2.2.2.2.1
  refine ⟨fun z => absurd h0 z, fun _ => ⟨fun z => ?_, fun z => ?_⟩⟩
  · rw [l3] at z
    rw [decide_eq_false (fun w => z (congrArg nI w.1))] at hp
    exact hp
  · rw [l3] at z
    have h4 : s.1.2.1.1 = 4 := (nI_eq (by omega) (by omega)).mp z
    rw [l5 (Or.inr (Or.inr h4))]
    refine ⟨fun w => ?_, fun w => ?_⟩
    · rw [decide_eq_false (fun v => w (congrArg nI v.2))] at hp; exact hp
    · rw [decide_eq_true ⟨h4, (nI_eq (show s.1.2.1.2.2 < 2 ^ 31 by omega) (by omega)).mp w⟩] at hp; exact hp
/-- how a piece ends: the token after it, or the fault -/
def OC {α : Type} (bs : List Nat) (σ : TS) (r : Except Nat (α × PS)) (Q : α → Prop) : Prop := match r with
  | .error f => FL σ f
  | .ok v => LK bs σ v.2.1 ∧ Q v.1
def OS (bs : List Nat) (σ : TS) (r : Except Nat PS) : Prop := match r with
  | .error f => FL σ f
  | .ok v => LK bs σ v.1
theorem tn_mustSign {bs : List Nat} {σ : TS} {s : PS} {c : Nat} {post : TS → Prop} (h : LK bs σ s.1) (hc : c < 100) (hp : ∀ σ', NF σ σ' → OS bs σ' (pMustS bs c s) → post σ') : wp_mustSign post σ (nI c) := by
  unfold pMustS at hp
  refine ⟨fun z => (z = σ ∧ isS s c = true) ∨ (NF σ z ∧ isS s c = false ∧ ∃ f, FL z f ∧ (er s 1 : Except Nat PS) = .error f), ?_, ⟨fun z => absurd h.2.1 z, fun _ => tn_isSign h hc ⟨fun b => Or.inl ⟨rfl, b⟩, fun b => tn_wrong (α := PS) h (by omega) (fun σ' f n g e => Or.inr ⟨n, b, f, g, e⟩)⟩⟩⟩
  rintro z3 (⟨rfl, hb⟩ | ⟨n, hb, f, g, e⟩)
  · refine tn_nxt h (fun σ' n' h' _ => hp σ' n' ?_)
    rw [if_pos hb]
    exact h'
  · refine tb_next g (hp z3 n ?_)
    rw [if_neg (by rw [hb]; decide), e]
    exact g
theorem tn_mustWord {bs : List Nat} {σ : TS} {s : PS} {k : Nat} {post : TS → Prop} (h : LK bs σ s.1) (hk : k < 20) (hp : ∀ σ', NF σ σ' → OS bs σ' (pMustW bs k s) → post σ') : wp_mustWord post σ k := by
  unfold pMustW at hp
  refine ⟨fun z => (z = σ ∧ isW s k = true) ∨ (NF σ z ∧ isW s k = false ∧ ∃ f, FL z f ∧ (er s 1 : Except Nat PS) = .error f), ?_, ⟨fun z => absurd h.2.1 z, fun _ => tn_isWord h hk ⟨fun b => Or.inl ⟨rfl, b⟩, fun b => tn_wrong (α := PS) h (by omega) (fun σ' f n g e => Or.inr ⟨n, b, f, g, e⟩)⟩⟩⟩
  rintro z3 (⟨rfl, hb⟩ | ⟨n, hb, f, g, e⟩)
  · refine tn_nxt h (fun σ' n' h' _ => hp σ' n' ?_)
    rw [if_pos hb]
    exact h'
  · refine tb_next g (hp z3 n ?_)
    rw [if_neg (by rw [hb]; decide), e]
    exact g
theorem tb_mustSign {σ : TS} {f : Nat} {k : Int32} {post : TS → Prop} (h : FL σ f) (hp : post σ) : wp_mustSign post σ k := by
  refine ⟨fun z => z = σ, ?_, ⟨fun _ => rfl, fun z => absurd z h.ne⟩⟩
  rintro z3 rfl
  exact tb_next h hp
theorem tb_mustWord {σ : TS} {f : Nat} {k : Nat} {post : TS → Prop} (h : FL σ f) (hp : post σ) : wp_mustWord post σ k := by
  refine ⟨fun z => z = σ, ?_, ⟨fun _ => rfl, fun z => absurd z h.ne⟩⟩
  rintro z3 rfl
  exact tb_next h hp
/-- a line's end: the sign stands there, or the fault -/
theorem tn_lineEnds {bs : List Nat} {σ : TS} {s : PS} {post : TS → Prop} (h : LK bs σ s.1) (h1 : isS s 59 = true → post σ) (h2 : ∀ σ' f, NF σ σ' → FL σ' f → pMustS bs 59 s = .error f → post σ') : wp_lineEnds post σ := by
  refine ⟨fun z => absurd h.2.1 z, fun _ => tn_isSign h (by omega) ⟨h1, fun b => tn_wrong (α := PS) h (by omega) (fun σ' f n g e => h2 σ' f n g ?_)⟩⟩
  unfold pMustS
  rw [if_neg (by rw [b]; decide), e]
theorem told {w : List Nat} : w ∈ wdT ↔ ∃ k, k < 20 ∧ w = wd k := by
  constructor
  · intro h
    obtain ⟨k, hk, e⟩ := List.mem_iff_getElem.mp h
    have hk' : k < 20 := hk
    refine ⟨k, hk', ?_⟩
    unfold wd
    rw [List.getD_eq_getElem?_getD, List.getElem?_eq_getElem hk, ← e]
    rfl
  · rintro ⟨k, hk, rfl⟩
    have : k < wdT.length := hk
    unfold wd
    rw [List.getD_eq_getElem?_getD, List.getElem?_eq_getElem this]
    exact List.getElem_mem this
theorem tn_isTold {bs : List Nat} {σ : TS} {s : PS} {post : Bool → TS → Prop} (h : LK bs σ s.1) (h2 : pK s = 2) (hp : post (decide (pW s ∈ wdT)) σ) : wp_isTold post σ := by
  have tr : ∀ k, k < 20 → isW s k = true → post true σ := by
    intro k hk hb
    unfold isW at hb
    have := of_decide_eq_true hb
    rw [decide_eq_true (told.mpr ⟨k, hk, this.2⟩)] at hp
    exact hp
  have fin : isW s 3 = false → isW s 15 = false → isW s 14 = false → isW s 19 = false → isW s 4 = false → isW s 9 = false → isW s 16 = false → isW s 7 = false → isW s 13 = false → isW s 1 = false → isW s 12 = false → isW s 8 = false → isW s 11 = false → isW s 6 = false → isW s 17 = false → isW s 2 = false → isW s 0 = false → isW s 5 = false → isW s 10 = false → isW s 18 = false → post false σ := by
    intro e3 e15 e14 e19 e4 e9 e16 e7 e13 e1 e12 e8 e11 e6 e17 e2 e0 e5 e10 e18
    have all : ∀ k, k < 20 → isW s k = false := by
      intro k hk
      rcases (show k = 0 ∨ k = 1 ∨ k = 2 ∨ k = 3 ∨ k = 4 ∨ k = 5 ∨ k = 6 ∨ k = 7 ∨ k = 8 ∨ k = 9 ∨ k = 10 ∨ k = 11 ∨ k = 12 ∨ k = 13 ∨ k = 14 ∨ k = 15 ∨ k = 16 ∨ k = 17 ∨ k = 18 ∨ k = 19 by omega) with w | w | w | w | w | w | w | w | w | w | w | w | w | w | w | w | w | w | w | w
      · rw [w]; exact e0
      · rw [w]; exact e1
      · rw [w]; exact e2
      · rw [w]; exact e3
      · rw [w]; exact e4
      · rw [w]; exact e5
      · rw [w]; exact e6
      · rw [w]; exact e7
      · rw [w]; exact e8
      · rw [w]; exact e9
      · rw [w]; exact e10
      · rw [w]; exact e11
      · rw [w]; exact e12
      · rw [w]; exact e13
      · rw [w]; exact e14
      · rw [w]; exact e15
      · rw [w]; exact e16
      · rw [w]; exact e17
      · rw [w]; exact e18
      · rw [w]; exact e19
    rw [decide_eq_false (fun w => by
      obtain ⟨k, hk, e⟩ := told.mp w
      have := all k hk
      unfold isW at this
      exact of_decide_eq_false this ⟨h2, e⟩)] at hp
    exact hp
  exact tn_isWord h (by omega) ⟨fun b => tr 3 (by omega) b, fun e3 => tn_isWord h (by omega) ⟨fun b => tr 15 (by omega) b, fun e15 => tn_isWord h (by omega) ⟨fun b => tr 14 (by omega) b, fun e14 => tn_isWord h (by omega) ⟨fun b => tr 19 (by omega) b, fun e19 => tn_isWord h (by omega) ⟨fun e4 => tn_isWord h (by omega) ⟨fun b => tr 9 (by omega) b, fun e9 => tn_isWord h (by omega) ⟨fun b => tr 16 (by omega) b, fun e16 => tn_isWord h (by omega) ⟨fun b => tr 7 (by omega) b, fun e7 => tn_isWord h (by omega) ⟨fun b => tr 13 (by omega) b, fun e13 => tn_isWord h (by omega) ⟨fun b => tr 1 (by omega) b, fun e1 => tn_isWord h (by omega) ⟨fun e12 => tn_isWord h (by omega) ⟨fun b => tr 8 (by omega) b, fun e8 => tn_isWord h (by omega) ⟨fun b => tr 11 (by omega) b, fun e11 => tn_isWord h (by omega) ⟨fun b => tr 6 (by omega) b, fun e6 => tn_isWord h (by omega) ⟨fun b => tr 17 (by omega) b, fun e17 => tn_isWord h (by omega) ⟨fun e2 => tn_isWord h (by omega) ⟨fun b => tr 0 (by omega) b, fun e0 => tn_isWord h (by omega) ⟨fun b => tr 5 (by omega) b, fun e5 => tn_isWord h (by omega) ⟨fun b => tr 10 (by omega) b, fun e10 => tn_isWord h (by omega) ⟨fun e18 => fin e3 e15 e14 e19 e4 e9 e16 e7 e13 e1 e12 e8 e11 e6 e17 e2 e0 e5 e10 e18, fun b => tr 18 (by omega) b⟩⟩⟩⟩, fun b => tr 2 (by omega) b⟩⟩⟩⟩⟩, fun b => tr 12 (by omega) b⟩⟩⟩⟩⟩⟩, fun b => tr 4 (by omega) b⟩⟩⟩⟩⟩
/-- a name: the word that stands there, or the fault -/
theorem tn_name {bs : List Nat} {σ : TS} {s : PS} {α : Type} {post : Int64 → TS → Prop} (h : LK bs σ s.1) (h1 : nameOk s = true → isNm (pW s) → post (pk (pW s)) σ) (h2 : ∀ σ' f v, NF σ σ' → FL σ' f → nameOk s = false → (er s 1 : Except Nat α) = .error f → post v σ') : wp_name post σ := by
  have hk5 := h.2.2.2.2.2.2.2.2.2.2.1
  have l3 := h.2.2.1.2.2.1
  refine ⟨fun z => absurd h.2.1 z, fun _ => ⟨fun z => z = σ ∧ nameOk s = false, ?_, fun z => ⟨rfl, ?_⟩, fun z => ?_⟩⟩
  · rintro z4 ⟨rfl, hn⟩
    exact tn_wrong (α := α) h (by omega) (fun σ' f n g e => h2 σ' f _ n g hn e)
  · unfold nameOk
    rw [l3] at z
    exact decide_eq_false (fun w => z (congrArg nI w.1))
  · rw [l3] at z
    have e2 : pK s = 2 := (nI_eq (show s.1.2.1.1 < 2 ^ 31 by omega) (by omega)).mp z
    refine tn_isTold h e2 ⟨fun hb => ?_, fun hb => ⟨rfl, ?_⟩⟩
    · have hw : sw σ = pk (pW s) := h.2.2.1.2.2.2.1 e2
      rw [hw]
      exact h1 (decide_eq_true ⟨e2, of_decide_eq_false hb⟩) (h.2.2.2.nm e2)
    · exact decide_eq_false (fun w => w.2 (of_decide_eq_true hb))
theorem tb_name {σ : TS} {f : Nat} {post : Int64 → TS → Prop} (h : FL σ f) (hp : ∀ v, post v σ) : wp_name post σ := ⟨fun _ => hp _, fun z => absurd z h.ne⟩
theorem tn_isSort {σ : TS} {n : Nat} {o : Bool} {post : Bool → TS → Prop} (hn : n < 2000) (hp : post (decide (1000 ≤ n) == o) σ) : wp_isSort post σ (nI n) o := by
  refine ⟨fun z b => z = σ ∧ b = decide (1000 ≤ n), ?_, ⟨fun z => ⟨rfl, ?_⟩, fun z => ⟨rfl, ?_⟩⟩⟩
  · rintro z3 b4 ⟨rfl, rfl⟩
    refine ⟨fun w => ?_, fun w => ?_⟩
    · have : (decide (1000 ≤ n) == o) = false := by
        rw [beq_eq_false_iff_ne]
        exact fun v => w (by rw [v])
      rw [this] at hp
      exact hp
    · have : (decide (1000 ≤ n) == o) = true := by
        rw [beq_iff_eq]
        revert w
        cases decide (1000 ≤ n) <;> cases o <;> intro w <;> first | rfl | exact absurd w (by decide)
      rw [this] at hp
      exact hp
  · have : n < 1000 := (nI_ltI (by omega) (by omega)).mp z
    exact (decide_eq_false (by omega)).symm
  · have : 1000 ≤ n := by
      rcases Nat.lt_or_ge n 1000 with w | w
      · exact absurd (nI_lt w (by omega)) z
      · exact w
    exact (decide_eq_true this).symm
theorem LK.ux {bs : List Nat} {σ : TS} {l : LxS} {k : Nat} {v : Int32} (h : LK bs σ l) (hk : 49 ≤ k) : LK bs (ux σ k v) l := by
  obtain ⟨⟨a1, a2, a3, a4⟩, h0, ⟨l1, l2, l3, l4, l5⟩, hb⟩ := h
  refine ⟨⟨?_, a2, a3, a4⟩, ?_, ⟨?_, ?_, ?_, l4, fun z => ?_⟩, hb⟩
  · rw [sx_ux, if_neg (by omega)]; exact a1
  · rw [sx_ux, if_neg (by omega)]; exact h0
  · rw [sx_ux, if_neg (by omega)]; exact l1
  · rw [sx_ux, if_neg (by omega)]; exact l2
  · rw [sx_ux, if_neg (by omega)]; exact l3
  · rw [sx_ux, if_neg (by omega)]; exact l5 z
theorem FL.ux {σ : TS} {f k : Nat} {v : Int32} (h : FL σ f) (hk : k ≠ 48) : FL (ux σ k v) f := ⟨by rw [sx_ux, if_neg (fun z => hk z.symm)]; exact h.1, h.2⟩
theorem pSpan_1 {bs : List Nat} {o1 o2 : Bool} {s : PS} (h : ¬ pK s = 1) : pSpan bs o1 o2 s = er s 1 := if_pos h
theorem pSpan_2 {bs : List Nat} {o1 o2 : Bool} {s : PS} (h : pK s = 1) (h2 : ¬ decide (1000 ≤ pNm s) = o1) : pSpan bs o1 o2 s = er s 2 := by
  unfold pSpan
  rw [if_neg (fun z => z h), if_pos h2]
theorem pSpan_3 {bs : List Nat} {o1 : Bool} {s : PS} (h : pK s = 1) (h2 : decide (1000 ≤ pNm s) = o1) : pSpan bs o1 true s = er s 4 := by
  unfold pSpan
  rw [if_neg (fun z => z h), if_neg (fun z => z h2), if_pos rfl]
theorem pSpan_4 {bs : List Nat} {o1 : Bool} {s : PS} (h : pK s = 1) (h2 : decide (1000 ≤ pNm s) = o1) (h3 : isW (nxt bs s) 17 = false) : pSpan bs o1 false s = .ok ((nI (pNm s), nI (pNm s)), nxt bs s) := by
  unfold pSpan
  rw [if_neg (fun z => z h), if_neg (fun z => z h2), if_neg (by decide), if_pos h3]
theorem pSpan_5 {bs : List Nat} {o1 : Bool} {s : PS} (h : pK s = 1) (h2 : decide (1000 ≤ pNm s) = o1) (h3 : isW (nxt bs s) 17 = true) (h4 : ¬ pK (nxt bs (nxt bs s)) = 1) : pSpan bs o1 false s = er (nxt bs (nxt bs s)) 1 := by
  unfold pSpan
  rw [if_neg (fun z => z h), if_neg (fun z => z h2), if_neg (by decide), if_neg (by rw [h3]; decide), if_pos h4]
theorem pSpan_6 {bs : List Nat} {o1 : Bool} {s : PS} (h : pK s = 1) (h2 : decide (1000 ≤ pNm s) = o1) (h3 : isW (nxt bs s) 17 = true) (h4 : pK (nxt bs (nxt bs s)) = 1) (h5 : ¬ decide (1000 ≤ pNm (nxt bs (nxt bs s))) = o1 ∨ pNm (nxt bs (nxt bs s)) < pNm s) : pSpan bs o1 false s = er (nxt bs (nxt bs s)) 2 := by
  unfold pSpan
  rw [if_neg (fun z => z h), if_neg (fun z => z h2), if_neg (by decide), if_neg (by rw [h3]; decide), if_neg (fun z => z h4), if_pos h5]
theorem pSpan_7 {bs : List Nat} {o1 : Bool} {s : PS} (h : pK s = 1) (h2 : decide (1000 ≤ pNm s) = o1) (h3 : isW (nxt bs s) 17 = true) (h4 : pK (nxt bs (nxt bs s)) = 1) (h5 : decide (1000 ≤ pNm (nxt bs (nxt bs s))) = o1) (h6 : pNm s ≤ pNm (nxt bs (nxt bs s))) : pSpan bs o1 false s = .ok ((nI (pNm s), nI (pNm (nxt bs (nxt bs s)))), nxt bs (nxt bs (nxt bs s))) := by
  unfold pSpan
  rw [if_neg (fun z => z h), if_neg (fun z => z h2), if_neg (by decide), if_neg (by rw [h3]; decide), if_neg (fun z => z h4), if_neg (by intro z; rcases z with z | z; exact z h5; omega)]
theorem tn_span {bs : List Nat} {σ : TS} {s : PS} {o1 o2 : Bool} {post : TS → Prop} (h : LK bs σ s.1) (hp : ∀ σ', NF σ σ' → OC bs σ' (pSpan bs o1 o2 s) (fun sp => sx σ' 49 = sp.1 ∧ sx σ' 50 = sp.2 ∧ sx σ' 51 = nI (pAt s)) → post σ') : wp_span post σ o1 o2 := by
  have hN : pNm s < 1500 := h.2.2.2.2.2.2.2.2.2.1
  have hK : pK s ≤ 5 := h.2.2.2.2.2.2.2.2.2.2.1
  have l3 : sx σ 45 = nI (pK s) := h.2.2.1.2.2.1
  have bad : ∀ z f, NF σ z → FL z f → pSpan bs o1 o2 s = .error f → post z := by
    intro z f n g e
    refine hp z n ?_
    rw [e]
    exact g
  refine ⟨fun _ => ?_, fun z => absurd h.le z⟩
  refine ⟨fun z => (z = σ ∧ pK s = 1) ∨ (NF σ z ∧ ∃ f, FL z f ∧ pSpan bs o1 o2 s = .error f), ?_, fun z => Or.inl ⟨rfl, ?_⟩, fun z => ?_⟩
  · rintro z4 J2
    refine ⟨fun z => (z = σ ∧ pK s = 1 ∧ decide (1000 ≤ pNm s) = o1) ∨ (NF σ z ∧ ∃ f, FL z f ∧ pSpan bs o1 o2 s = .error f), ?_, ?_⟩
    · rintro z7 J5
      refine ⟨fun z => (z = σ ∧ pK s = 1 ∧ decide (1000 ≤ pNm s) = o1 ∧ o2 = false) ∨ (NF σ z ∧ ∃ f, FL z f ∧ pSpan bs o1 o2 s = .error f), ?_, ?_⟩
      · rintro z10 J8 z11 hz11 z12 hz12 z13 hz13
        rcases J8 with ⟨rfl, k1, k2, k3⟩ | ⟨n, f, g, e⟩
        · have n13 : NF z10 z13 := by rw [hz13, hz12, hz11]; exact (((NF.rf _).ux (by omega)).ux (by omega)).ux (by omega)
          have L13 : LK bs z13 s.1 := by rw [hz13, hz12, hz11]; exact ((h.ux (by omega)).ux (by omega)).ux (by omega)
          have e47 : sx z10 47 = nI (pNm s) := h.2.2.1.2.2.2.2 (Or.inl k1)
          have v49 : sx z13 49 = nI (pNm s) := by rw [hz13, sx_ux, if_neg (by omega), hz12, sx_ux, if_pos rfl, hz11, sx_ux, if_neg (by omega)]; exact e47
          have v50 : sx z13 50 = nI (pNm s) := by rw [hz13, sx_ux, if_pos rfl, hz12, sx_ux, if_neg (by omega), hz11, sx_ux, if_neg (by omega)]; exact e47
          have v51 : sx z13 51 = nI (pAt s) := by rw [hz13, sx_ux, if_neg (by omega), hz12, sx_ux, if_neg (by omega), hz11, sx_ux, if_pos rfl]; exact h.2.2.1.1
          subst k3
          refine tn_nxt L13 (fun z14 n14 L14 e14 => tn_isWord L14 (by omega) ⟨fun hb => ?_, fun hb => ?_⟩)
          · have N14 := n13.tr n14
            have hK2 := tkB.nm (bs := bs) (l := s.1)
            refine ⟨fun z => (NF z10 z ∧ LK bs z (nxt bs (nxt bs s)).1 ∧ sx z 49 = nI (pNm s) ∧ sx z 51 = nI (pAt s) ∧ pK (nxt bs (nxt bs s)) = 1) ∨ (NF z10 z ∧ ∃ f, FL z f ∧ pSpan bs o1 false s = .error f), ?_, ?_⟩
            · rintro z20 J18
              refine ⟨fun z => (NF z10 z ∧ LK bs z (nxt bs (nxt bs s)).1 ∧ sx z 49 = nI (pNm s) ∧ sx z 51 = nI (pAt s) ∧ pK (nxt bs (nxt bs s)) = 1 ∧ decide (1000 ≤ pNm (nxt bs (nxt bs s))) = o1 ∧ pNm s ≤ pNm (nxt bs (nxt bs s))) ∨ (NF z10 z ∧ ∃ f, FL z f ∧ pSpan bs o1 false s = .error f), ?_, ?_⟩
              · rintro z23 J21 z24 hz24
                rcases J21 with ⟨n, L, a1, a2, a3, a4, a5⟩ | ⟨n, f, g, e⟩
                · have e47 : sx z23 47 = nI (pNm (nxt bs (nxt bs s))) := L.2.2.1.2.2.2.2 (Or.inl a3)
                  have L24 : LK bs z24 (nxt bs (nxt bs s)).1 := by rw [hz24]; exact L.ux (by omega)
                  refine tn_nxt L24 (fun z25 n25 L25 e25 => hp z25 (n.tr (NF.tr (by rw [hz24]; exact (NF.rf _).ux (by omega)) n25)) ?_)
                  rw [pSpan_7 k1 k2 hb a3 a4 a5]
                  refine ⟨L25, ?_, ?_, ?_⟩
                  · rw [e25 49 (by omega), hz24, sx_ux, if_neg (by omega)]; exact a1
                  · rw [e25 50 (by omega), hz24, sx_ux, if_pos rfl]; exact e47
                  · rw [e25 51 (by omega), hz24, sx_ux, if_neg (by omega)]; exact a2
                · have g24 : FL z24 f := by rw [hz24]; exact g.ux (by omega)
                  exact tb_next g24 (bad z24 f (by rw [hz24]; exact n.ux (by omega)) g24 e)
              · rcases J18 with ⟨n, L, a1, a2, a3⟩ | ⟨n, f, g, e⟩
                · have hN2 : pNm (nxt bs (nxt bs s)) < 1500 := L.2.2.2.2.2.2.2.2.2.1
                  have e47 : sx z20 47 = nI (pNm (nxt bs (nxt bs s))) := L.2.2.1.2.2.2.2 (Or.inl a3)
                  refine ⟨fun z => absurd L.2.1 z, fun _ => ⟨fun z => NF z10 z ∧ LK bs z (nxt bs (nxt bs s)).1 ∧ (¬ decide (1000 ≤ pNm (nxt bs (nxt bs s))) = o1 ∨ pNm (nxt bs (nxt bs s)) < pNm s), ?_, ?_⟩⟩
                  · rintro z29 ⟨m, L', c⟩
                    refine tn_wrong (α := Sp × PS) L' (by omega) (fun z30 f n' g e => Or.inr ⟨m.tr n', f, g, ?_⟩)
                    rw [pSpan_6 k1 k2 hb a3 c]
                    exact e
                  · rw [e47]
                    refine tn_isSort (by omega) ⟨fun w => ⟨n, L, Or.inl ?_⟩, fun w => ⟨fun v => Or.inl ⟨n, L, a1, a2, a3, ?_, ?_⟩, fun v => ⟨n, L, Or.inr ?_⟩⟩⟩
                    · exact beq_eq_false_iff_ne.mp w
                    · exact beq_iff_eq.mp w
                    · rw [a1, e47] at v
                      exact (nI_leI (by omega) (by omega)).mp v
                    · rw [a1, e47] at v
                      rcases Nat.lt_or_ge (pNm (nxt bs (nxt bs s))) (pNm s) with u | u
                      · exact u
                      · exact absurd (nI_le u (by omega)) v
                · exact ⟨fun _ => Or.inr ⟨n, f, g, e⟩, fun z => absurd z g.ne⟩
            · refine tn_nxt L14 (fun z37 n37 L37 e37 => ⟨fun z => absurd L37.2.1 z, fun _ => ⟨fun z => Or.inl ⟨N14.tr n37, L37, ?_, ?_, ?_⟩, fun z => ?_⟩⟩)
              · rw [e37 49 (by omega), e14 49 (by omega)]; exact v49
              · rw [e37 51 (by omega), e14 51 (by omega)]; exact v51
              · have hk : pK (nxt bs (nxt bs s)) ≤ 5 := L37.2.2.2.2.2.2.2.2.2.2.1
                rw [L37.2.2.1.2.2.1] at z
                exact (nI_eq (by omega) (by omega)).mp z
              · refine tn_wrong (α := Sp × PS) L37 (by omega) (fun z40 f n' g e => Or.inr ⟨(N14.tr n37).tr n', f, g, ?_⟩)
                rw [pSpan_5 k1 k2 hb (fun w => z (by rw [L37.2.2.1.2.2.1]; exact congrArg nI w))]
                exact e
          · refine hp z14 (n13.tr n14) ?_
            rw [pSpan_4 k1 k2 hb]
            exact ⟨L14, (e14 49 (by omega)).trans v49, (e14 50 (by omega)).trans v50, (e14 51 (by omega)).trans v51⟩
        · have g13 : FL z13 f := by rw [hz13, hz12, hz11]; exact ((g.ux (by omega)).ux (by omega)).ux (by omega)
          have n13 : NF σ z13 := by rw [hz13, hz12, hz11]; exact ((n.ux (by omega)).ux (by omega)).ux (by omega)
          refine tb_next g13 (tb_isWord g13 ⟨fun w => (by cases w), fun _ => bad z13 f n13 g13 e⟩)
      · rcases J5 with ⟨rfl, k1, k2⟩ | ⟨n, f, g, e⟩
        · refine ⟨fun w => Or.inl ⟨rfl, k1, k2, w⟩, fun w => ?_⟩
          subst w
          refine tn_wrong (α := Sp × PS) h (by omega) (fun z f n' g e => Or.inr ⟨n', f, g, ?_⟩)
          rw [pSpan_3 k1 k2]
          exact e
        · exact ⟨fun _ => Or.inr ⟨n, f, g, e⟩, fun _ => tb_wrong g (Or.inr ⟨n, f, g, e⟩)⟩
    · rcases J2 with ⟨rfl, k1⟩ | ⟨n, f, g, e⟩
      · have e47 : sx z4 47 = nI (pNm s) := h.2.2.1.2.2.2.2 (Or.inl k1)
        refine ⟨fun z => absurd h.2.1 z, fun _ => ?_⟩
        rw [e47]
        refine tn_isSort (by omega) ⟨fun w => Or.inl ⟨rfl, k1, beq_iff_eq.mp w⟩, fun w => ?_⟩
        refine tn_wrong (α := Sp × PS) h (by omega) (fun z f n' g e => Or.inr ⟨n', f, g, ?_⟩)
        rw [pSpan_2 k1 (beq_eq_false_iff_ne.mp w)]
        exact e
      · exact ⟨fun _ => Or.inr ⟨n, f, g, e⟩, fun z => absurd z g.ne⟩
  · rw [l3] at z
    exact (nI_eq (by omega) (by omega)).mp z
  · refine tn_wrong (α := Sp × PS) h (by omega) (fun z' f n' g e => Or.inr ⟨n', f, g, ?_⟩)
    rw [pSpan_1 (fun w => z (by rw [l3]; exact congrArg nI w))]
    exact e
theorem tb_span {σ : TS} {f : Nat} {o1 o2 : Bool} {post : TS → Prop} (h : FL σ f) (hp : post σ) : wp_span post σ o1 o2 := ⟨fun z => absurd z h.nle, fun _ => hp⟩
theorem tn_number {bs : List Nat} {σ : TS} {s : PS} {lo hi : Nat} {post : Int32 → TS → Prop} (h : LK bs σ s.1) (hh : lo ≤ hi ∧ hi < 2000) (h1 : ∀ σ' v s', NF σ σ' → pNum bs lo hi s = .ok (v, s') → LK bs σ' s'.1 → (∀ k, 49 ≤ k → sx σ' k = sx σ k) → post v σ') (h2 : ∀ σ' f v, NF σ σ' → FL σ' f → pNum bs lo hi s = .error f → post v σ') : wp_numberTold post σ (nI lo) (nI hi) := by
  have hN : pNm s < 1500 := h.2.2.2.2.2.2.2.2.2.1
  have hK : pK s ≤ 5 := h.2.2.2.2.2.2.2.2.2.2.1
  have l3 : sx σ 45 = nI (pK s) := h.2.2.1.2.2.1
  refine ⟨fun z => (z = σ ∧ pK s = 3) ∨ (NF σ z ∧ ∃ f, FL z f ∧ pNum bs lo hi s = .error f), ?_, fun z => absurd h.2.1 z, fun _ => ⟨fun z => Or.inl ⟨rfl, ?_⟩, fun z => ?_⟩⟩
  · rintro z3 J1
    refine ⟨fun z => (z = σ ∧ pK s = 3 ∧ lo ≤ pNm s ∧ pNm s ≤ hi) ∨ (NF σ z ∧ ∃ f, FL z f ∧ pNum bs lo hi s = .error f), ?_, ?_⟩
    · rintro z6 J4 x7 hx7
      rcases J4 with ⟨rfl, k1, k2⟩ | ⟨n, f, g, e⟩
      · have e47 : sx z6 47 = nI (pNm s) := h.2.2.1.2.2.2.2 (Or.inr (Or.inl k1))
        refine tn_nxt h (fun z8 n8 L8 e8 => h1 z8 x7 (nxt bs s) n8 ?_ L8 e8)
        unfold pNum
        rw [if_neg (fun z => z k1), if_neg (fun z => z k2), hx7, e47]
      · exact tb_next g (h2 z6 f x7 n g e)
    · rcases J1 with ⟨rfl, k1⟩ | ⟨n, f, g, e⟩
      · have e47 : sx z3 47 = nI (pNm s) := h.2.2.1.2.2.2.2 (Or.inr (Or.inl k1))
        refine ⟨fun z => absurd h.2.1 z, fun _ => ?_⟩
        rw [e47]
        refine tsp_within ⟨fun w => Or.inl ⟨rfl, k1, ?_⟩, fun w => ?_⟩
        · have := wthn_iff.mp w
          rw [nI_toInt (by omega), nI_toInt (by omega), nI_toInt (by omega)] at this
          omega
        · refine tn_wrong (α := Int32 × PS) h (by omega) (fun z f n' g e => Or.inr ⟨n', f, g, ?_⟩)
          unfold pNum
          rw [if_neg (fun z => z k1), if_pos (fun v => ?_)]
          · exact e
          · rw [wthn_iff.mpr ⟨by rw [nI_toInt (by omega), nI_toInt (by omega)]; omega, by rw [nI_toInt (by omega), nI_toInt (by omega)]; omega⟩] at w
            cases w
      · exact ⟨fun _ => Or.inr ⟨n, f, g, e⟩, fun z => absurd z g.ne⟩
  · rw [l3] at z
    exact (nI_eq (by omega) (by omega)).mp z
  · refine tn_wrong (α := Int32 × PS) h (by omega) (fun z' f n' g e => Or.inr ⟨n', f, g, ?_⟩)
    unfold pNum
    rw [if_pos (fun w => z (by rw [l3]; exact congrArg nI w))]
    exact e
theorem tb_number {σ : TS} {f : Nat} {a b : Int32} {post : Int32 → TS → Prop} (h : FL σ f) (hp : ∀ v, post v σ) : wp_numberTold post σ a b := by
  refine ⟨fun z => z = σ, ?_, fun _ => rfl, fun z => absurd z h.ne⟩
  rintro z3 rfl
  refine ⟨fun z => z = z3, ?_, fun _ => rfl, fun z => absurd z h.ne⟩
  rintro z6 rfl x7 _
  exact tb_next h (hp _)
