/-! The model's parser: conditions -/
set_option maxRecDepth 100000
def atT (σ : TS) (k1 k2 k3 n : Nat) (fl : List Cn) : Prop := sx σ n = nI fl.length ∧ fl.length ≤ 6 ∧ ∀ j (h : j < fl.length), sf σ k1 j = nI fl[j].1 ∧ fl[j].1 ≤ 9 ∧ sf σ k2 j = fl[j].2.1 ∧ sf σ k3 j = fl[j].2.2.1
def AT (σ : TS) (A : List Cn) : Prop := atT σ 52 53 54 55 (atF 3 A) ∧ atT σ 56 57 58 59 (atF 6 A)
theorem atF_lo {w : Nat} (h : w < 6) (A : List Cn) : atF w A = atF 3 A := by
  unfold atF
  rw [decide_eq_true h]
  rfl
theorem atF_hi {w : Nat} (h : 6 ≤ w) (A : List Cn) : atF w A = atF 6 A := by
  unfold atF
  rw [decide_eq_false (by omega)]
  rfl
theorem atF_snoc (w : Nat) (A : List Cn) (k : Cn) : atF w (A ++ [k]) = if decide (k.1 < 6) = decide (w < 6) then atF w A ++ [k] else atF w A := by
  unfold atF
  rw [List.filter_append]
  by_cases h : decide (k.1 < 6) = decide (w < 6)
  · rw [if_pos h, List.filter_cons_of_pos (by rw [h]; exact beq_self_eq_true _)]
    rfl
  · rw [if_neg h, List.filter_cons_of_neg (by intro z; exact h (beq_iff_eq.mp z))]
    exact List.append_nil _
theorem atT.nf {σ σ' : TS} {k1 k2 k3 n : Nat} {fl : List Cn} (h : atT σ k1 k2 k3 n fl) (m : NF σ σ') (hn : 51 < n) : atT σ' k1 k2 k3 n fl := ⟨(m.1 n (by omega)).trans h.1, h.2.1, fun j hj => by rw [m.2.2, m.2.2, m.2.2]; exact h.2.2 j hj⟩
theorem AT.nf {σ σ' : TS} {A : List Cn} (h : AT σ A) (m : NF σ σ') : AT σ' A := ⟨h.1.nf m (by omega), h.2.nf m (by omega)⟩
def TT (c : Nat) (σ0 : TS) (bs : List Nat) (o t : Nat) (σ : TS) (s : PS) : Prop := TPk c σ0 bs σ s ∧ AT σ (pA s) ∧ sx σ 60 = nI o ∧ sx σ 61 = nI t ∧ o ≤ 9 ∧ t < 6
def BD (c : Nat) (σ0 : TS) (σ : TS) (f : Nat) : Prop := PF c σ0 σ ∧ FL σ f
theorem TT.nf {c : Nat} {σ0 : TS} {bs : List Nat} {o t : Nat} {σ σ' : TS} {s s' : PS} (h : TT c σ0 bs o t σ s) (n : NF σ σ') (l : LK bs σ' s'.1) (e : s'.2 = s.2) : TT c σ0 bs o t σ' s' := ⟨h.1.nf n l (by show s'.2.1 = s.2.1; rw [e]), by show AT σ' s'.2.2; rw [e]; exact h.2.1.nf n, (n.1 60 (by omega)).trans h.2.2.1, (n.1 61 (by omega)).trans h.2.2.2.1, h.2.2.2.2⟩
theorem TT.lk {c : Nat} {σ0 : TS} {bs : List Nat} {o t : Nat} {σ : TS} {s : PS} (h : TT c σ0 bs o t σ s) : LK bs σ s.1 := h.1.2.1
theorem TT.pf {c : Nat} {σ0 : TS} {bs : List Nat} {o t : Nat} {σ : TS} {s : PS} (h : TT c σ0 bs o t σ s) : PF c σ0 σ := h.1.1
theorem TT.tb {c : Nat} {σ0 : TS} {bs : List Nat} {o t : Nat} {σ : TS} {s : PS} (h : TT c σ0 bs o t σ s) : tkB bs s.1 := h.lk.2.2.2
theorem RepT.addCn {σ : TS} {c : Nat} {E : Ed} {k : Cn} (h : RepT σ c E) (hn : (eCn E).length < 400) (g1 : sf σ 25 (400 * c + (eCn E).length) = nI k.1) (g2 : sf σ 26 (400 * c + (eCn E).length) = k.2.1) (g3 : sf σ 27 (400 * c + (eCn E).length) = k.2.2.1) (g4 : 3 ≤ k.1 → sf σ 28 (400 * c + (eCn E).length) = nI k.2.2.2) : RepT (uf σ 3 (7 * c + 5) (nI ((eCn E).length + 1))) c (uCn E (eCn E ++ [k])) := by
  obtain ⟨hd, a1, b1, c1, d1, e1, ⟨f1, f2, f3⟩⟩ := h
  refine ⟨hd, ⟨?_, a1.2⟩, ⟨?_, b1.2⟩, ⟨?_, c1.2⟩, ⟨?_, d1.2⟩, ⟨?_, e1.2⟩, ⟨?_, ?_, fun i hi => ?_⟩⟩
  · rw [sf_uf, if_neg (by omega)]; exact a1.1
  · rw [sf_uf, if_neg (by omega)]; exact b1.1
  · rw [sf_uf, if_neg (by omega)]; exact c1.1
  · rw [sf_uf, if_neg (by omega)]; exact d1.1
  · rw [sf_uf, if_neg (by omega)]; exact e1.1
  · rw [sf_uf, if_pos ⟨rfl, rfl⟩]; show _ = nI (eCn E ++ [k]).length; rw [List.length_append]; rfl
  · show (eCn E ++ [k]).length ≤ 400; rw [List.length_append, List.length_singleton]; omega
  · have hk' : i < (eCn E ++ [k]).length := hi
    show sf σ 25 _ = nI (eCn E ++ [k])[i].1 ∧ sf σ 26 _ = (eCn E ++ [k])[i].2.1 ∧ sf σ 27 _ = (eCn E ++ [k])[i].2.2.1 ∧ (3 ≤ (eCn E ++ [k])[i].1 → sf σ 28 _ = nI (eCn E ++ [k])[i].2.2.2)
    rw [List.length_append, List.length_singleton] at hk'
    rcases Nat.lt_or_ge i (eCn E).length with z | z
    · simp only [List.getElem_append_left z]; exact f3 i z
    · have : i = (eCn E).length := by omega
      subst this
      simp only [List.getElem_append_right (Nat.le_refl _), Nat.sub_self, List.getElem_singleton]
      exact ⟨g1, g2, g3, g4⟩
theorem atT.wr {σ : TS} {k1 k2 k3 n k i : Nat} {v : Int32} {fl : List Cn} (h : atT σ k1 k2 k3 n fl) (h1 : k ≠ k1) (h2 : k ≠ k2) (h3 : k ≠ k3) : atT (uf σ k i v) k1 k2 k3 n fl := ⟨h.1, h.2.1, fun j hj => by
  rw [sf_uf, if_neg (fun z => h1 z.1.symm), sf_uf, if_neg (fun z => h2 z.1.symm), sf_uf, if_neg (fun z => h3 z.1.symm)]; exact h.2.2 j hj⟩
theorem TT.row {c : Nat} {σ0 : TS} {bs : List Nat} {o t : Nat} {σ : TS} {s : PS} {k i : Nat} {v : Int32} (h : TT c σ0 bs o t σ s) (h1 : 3 ≤ k) (h2 : k ≤ 28) (h3 : i / Wd k = c) (h4 : ¬ usd c (pE s) k i) : TT c σ0 bs o t (uf σ k i v) s := by
  obtain ⟨⟨a1, a2, a3, a4, a5⟩, ⟨b1, b2⟩, b3, b4, b5⟩ := h
  exact ⟨⟨a1.uf (Or.inl ⟨h1, h2, h3⟩), a2.uf (by omega), a3.puf h4, a4, a5⟩, ⟨b1.wr (by omega) (by omega) (by omega), b2.wr (by omega) (by omega) (by omega)⟩, b3, b4, b5⟩
theorem tt_newCond {c : Nat} {σ0 : TS} {bs : List Nat} {o t : Nat} {σ : TS} {s : PS} {w u' : Nat} {a b u : Int32} {post : Int32 → TS → Prop} (h : TT c σ0 bs o t σ s) (hc : cnL s < 400) (hu : 3 ≤ w → u = nI u') (hp : ∀ σ', TT c σ0 bs o t σ' (nwC s (w, a, b, u')).2 → post (nI (cnL s)) σ') : wp_newCond post σ (nI w) a b u := by
  have hR := h.1.2.2.1
  have h31 := h.1.2.2.2.1
  have hc3 := hR.1
  obtain ⟨i1, i2, i3⟩ := nI7 hc3 (show 5 < 7 by omega)
  have hcnt : sf σ 3 (7 * c + 5) = nI (cnL s) := hR.2.2.2.2.2.2.1
  unfold wp_newCond
  rw [h31, i1, i2]
  refine ⟨i3, fun x1 hx1 x2 hx2 => ?_⟩
  rw [hcnt] at hx1
  have ex2 : x2 = nI (400 * c + cnL s) := by rw [hx2, hx1, nI_mul, nI_add]
  rw [ex2, nI_clamp (by omega)]
  have nu : ∀ k, 25 ≤ k → k ≤ 28 → ¬ usd c (pE s) k (400 * c + cnL s) := by
    intro k h1 h2 u
    unfold usd at u
    have e : cnL s = (eCn (pE s)).length := rfl
    omega
  have dv : ∀ k, 25 ≤ k → k ≤ 28 → (400 * c + cnL s) / Wd k = c := by
    intro k h1 h2
    have : Wd k = 400 := by
      unfold Wd
      rw [if_neg (by omega), if_neg (by omega), if_neg (by omega), if_neg (by omega), if_neg (by omega), if_neg (by omega), if_neg (by omega)]
    rw [this]
    omega
  refine ⟨vp_inN (by omega) (by omega), fun z3 hz3 => ⟨vp_inN (by omega) (by omega), fun z4 hz4 => ⟨vp_inN (by omega) (by omega), fun z5 hz5 => ⟨vp_inN (by omega) (by omega), fun z6 hz6 => ?_⟩⟩⟩⟩
  have T3 : TT c σ0 bs o t z3 s := by rw [hz3]; exact h.row (by omega) (by omega) (dv _ (by omega) (by omega)) (nu _ (by omega) (by omega))
  have T4 : TT c σ0 bs o t z4 s := by rw [hz4]; exact T3.row (by omega) (by omega) (dv _ (by omega) (by omega)) (nu _ (by omega) (by omega))
  have T5 : TT c σ0 bs o t z5 s := by rw [hz5]; exact T4.row (by omega) (by omega) (dv _ (by omega) (by omega)) (nu _ (by omega) (by omega))
  have T6 : TT c σ0 bs o t z6 s := by rw [hz6]; exact T5.row (by omega) (by omega) (dv _ (by omega) (by omega)) (nu _ (by omega) (by omega))
  have c6 : sf z6 3 (7 * c + 5) = nI (cnL s) := T6.1.2.2.1.2.2.2.2.2.2.1
  rw [T6.1.2.2.2.1, i1, i2, c6]
  refine ⟨i3, i3, fun z7 hz7 => ?_⟩
  rw [hx1]
  refine hp z7 ?_
  rw [nI_add] at hz7
  obtain ⟨⟨a1, a2, a3, a4, a5⟩, ⟨b1, b2⟩, b3, b4, b5⟩ := T6
  rw [hz7]
  refine ⟨⟨a1.uf (Or.inl ⟨by omega, by omega, by show _ / 7 = c; omega⟩), a2.uf (by omega), ?_, a4, a5⟩, ⟨b1.wr (by omega) (by omega) (by omega), b2.wr (by omega) (by omega) (by omega)⟩, b3, b4, b5⟩
  refine a3.addCn (k := (w, a, b, u')) hc ?_ ?_ ?_ (fun h3 => ?_)
  · rw [hz6, sf_uf, if_neg (by omega), hz5, sf_uf, if_neg (by omega), hz4, sf_uf, if_neg (by omega), hz3, sf_uf, if_pos ⟨rfl, rfl⟩]
  · rw [hz6, sf_uf, if_neg (by omega), hz5, sf_uf, if_neg (by omega), hz4, sf_uf, if_pos ⟨rfl, rfl⟩]
  · rw [hz6, sf_uf, if_neg (by omega), hz5, sf_uf, if_pos ⟨rfl, rfl⟩]
  · rw [hz6, sf_uf, if_pos ⟨rfl, rfl⟩]; exact hu h3
theorem tt_opens {c : Nat} {σ0 : TS} {bs : List Nat} {o t : Nat} {σ : TS} {s : PS} {α : Type} {post : TS → Prop} (h : TT c σ0 bs o t σ s) (h1 : o < 9 → ∀ σ', TT c σ0 bs (o + 1) t σ' (nxt bs s) → post σ') (h2 : o = 9 → ∀ σ' f, BD c σ0 σ' f → (er s 4 : Except Nat α) = .error f → post σ') : wp_opens post σ := by
  have ho := h.2.2.2.2.1
  have h60 := h.2.2.1
  refine ⟨fun z => (z = σ ∧ o < 9) ∨ (o = 9 ∧ ∃ f, BD c σ0 z f ∧ (er s 4 : Except Nat α) = .error f), ?_, fun z => absurd h.lk.2.1 z, fun _ => ⟨fun z => Or.inl ⟨rfl, ?_⟩, fun z => ?_⟩⟩
  · rintro z3 (⟨rfl, hlt⟩ | ⟨h9, f, g, e⟩) z4 hz4
    · rw [h60, nI_add] at hz4
      have T4 : TT c σ0 bs (o + 1) t z4 s := by
        obtain ⟨⟨a1, a2, a3, a4, a5⟩, ⟨b1, b2⟩, b3, b4, b5, b6⟩ := h
        rw [hz4]
        refine ⟨⟨a1.ux (by omega), a2.ux (by omega), a3.pux, ?_, a5⟩, ⟨⟨?_, b1.2⟩, ⟨?_, b2.2⟩⟩, ?_, ?_, by omega, b6⟩
        · rw [sx_ux, if_neg (by omega)]; exact a4
        · rw [sx_ux, if_neg (by omega)]; exact b1.1
        · rw [sx_ux, if_neg (by omega)]; exact b2.1
        · rw [sx_ux, if_pos rfl]
        · rw [sx_ux, if_neg (by omega)]; exact b4
      exact tn_nxt T4.lk (fun z5 n5 L5 _ => h1 hlt z5 (T4.nf n5 L5 rfl))
    · have g4 : BD c σ0 z4 f := by rw [hz4]; exact ⟨g.1.ux (by omega), g.2.ux (by omega)⟩
      exact tb_next g4.2 (h2 h9 z4 f g4 e)
  · rw [h60] at z
    have : o ≠ 9 := fun w => z (by rw [w])
    omega
  · rw [h60] at z
    have h9 : o = 9 := (nI_eq (by omega) (by omega)).mp z
    exact tn_wrong (α := α) h.lk (by omega) (fun z' f n g e => Or.inr ⟨h9, f, ⟨h.pf.nf n, g⟩, e⟩)
theorem tb_opens {c : Nat} {σ0 : TS} {σ : TS} {f : Nat} {post : TS → Prop} (h : BD c σ0 σ f) (hp : ∀ σ', BD c σ0 σ' f → post σ') : wp_opens post σ := by
  refine ⟨fun z => z = σ, ?_, fun _ => rfl, fun z => absurd z h.2.ne⟩
  rintro z3 rfl z4 hz4
  have g4 : BD c σ0 z4 f := by rw [hz4]; exact ⟨h.1.ux (by omega), h.2.ux (by omega)⟩
  exact tb_next g4.2 (hp z4 g4)
/-- closing: one level less -/
theorem TT.less {c : Nat} {σ0 : TS} {bs : List Nat} {o t : Nat} {σ : TS} {s : PS} (h : TT c σ0 bs (o + 1) t σ s) : TT c σ0 bs o t (ux σ 60 (sx σ 60 - nI 1)) s := by
  obtain ⟨⟨a1, a2, a3, a4, a5⟩, ⟨b1, b2⟩, b3, b4, b5, b6⟩ := h
  rw [b3, nI_sub (by omega)]
  refine ⟨⟨a1.ux (by omega), a2.ux (by omega), a3.pux, ?_, a5⟩, ⟨⟨?_, b1.2⟩, ⟨?_, b2.2⟩⟩, ?_, ?_, by omega, b6⟩
  · rw [sx_ux, if_neg (by omega)]; exact a4
  · rw [sx_ux, if_neg (by omega)]; exact b1.1
  · rw [sx_ux, if_neg (by omega)]; exact b2.1
  · rw [sx_ux, if_pos rfl]; rfl
  · rw [sx_ux, if_neg (by omega)]; exact b4
theorem atI_le (w : Nat) (a b : Int32) (A : List Cn) : atI w a b A ≤ (atF w A).length := List.findIdx_le_length
/-- no row before the place is like it; the row at the place is -/
theorem atI_lt {w : Nat} {a b : Int32} {A : List Cn} {j : Nat} (hj : j < (atF w A).length) (h : j < atI w a b A) : ¬ ((atF w A)[j].1 = w ∧ (atF w A)[j].2.1 = a ∧ (atF w A)[j].2.2.1 = b) := by
  have := List.not_of_lt_findIdx (p := fun c : Cn => decide (c.1 = w ∧ c.2.1 = a ∧ c.2.2.1 = b)) h
  exact of_decide_eq_false this
theorem atI_at {w : Nat} {a b : Int32} {A : List Cn} (h : atI w a b A < (atF w A).length) : (atF w A)[atI w a b A].1 = w ∧ (atF w A)[atI w a b A].2.1 = a ∧ (atF w A)[atI w a b A].2.2.1 = b := by
  have := List.findIdx_getElem (p := fun c : Cn => decide (c.1 = w ∧ c.2.1 = a ∧ c.2.2.1 = b)) (w := h)
  exact of_decide_eq_true this
theorem atI_eq {w : Nat} {a b : Int32} {A : List Cn} {j : Nat} (hj : j < (atF w A).length) (hle : j ≤ atI w a b A) (h : (atF w A)[j].1 = w ∧ (atF w A)[j].2.1 = a ∧ (atF w A)[j].2.2.1 = b) : j = atI w a b A := by
  rcases Nat.lt_or_ge j (atI w a b A) with z | z
  · exact absurd h (atI_lt hj z)
  · omega
theorem atT.add {σ : TS} {k1 k2 k3 n i : Nat} {fl : List Cn} {k : Cn} (h : atT σ k1 k2 k3 n fl) (hi : i = fl.length) (h6 : i < 6) (h9 : k.1 ≤ 9) (n12 : k1 ≠ k2) (n13 : k1 ≠ k3) (n23 : k2 ≠ k3) : atT (ux (uf (uf (uf σ k1 i (nI k.1)) k2 i k.2.1) k3 i k.2.2.1) n (nI (i + 1))) k1 k2 k3 n (fl ++ [k]) := by
  subst hi
  refine ⟨by rw [sx_ux, if_pos rfl, List.length_append]; rfl, by rw [List.length_append, List.length_singleton]; omega, fun j hj => ?_⟩
  rw [List.length_append, List.length_singleton] at hj
  rw [sf_ux, sf_ux, sf_ux]
  rcases Nat.lt_or_ge j fl.length with z | z
  · simp only [List.getElem_append_left z]
    have hne : ∀ x y : Nat, ¬ (x = y ∧ j = fl.length) := fun x y v => by omega
    rw [sf_uf, if_neg (hne _ _), sf_uf, if_neg (hne _ _), sf_uf, if_neg (hne _ _), sf_uf, if_neg (hne _ _), sf_uf, if_neg (hne _ _), sf_uf, if_neg (hne _ _), sf_uf, if_neg (hne _ _), sf_uf, if_neg (hne _ _), sf_uf, if_neg (hne _ _)]
    exact h.2.2 j z
  · have : j = fl.length := by omega
    subst this
    simp only [List.getElem_append_right (Nat.le_refl _), Nat.sub_self, List.getElem_singleton]
    refine ⟨?_, h9, ?_, ?_⟩
    · rw [sf_uf, if_neg (fun v => n13 v.1), sf_uf, if_neg (fun v => n12 v.1), sf_uf, if_pos ⟨rfl, rfl⟩]
    · rw [sf_uf, if_neg (fun v => n23 v.1), sf_uf, if_pos ⟨rfl, rfl⟩]
    · rw [sf_uf, if_pos ⟨rfl, rfl⟩]
theorem TT.pf2 {c : Nat} {σ0 : TS} {bs : List Nat} {o t : Nat} {σ : TS} {s : PS} {k i : Nat} {v : Int32} (h : TPk c σ0 bs σ s) (h1 : 52 ≤ k) (h2 : k ≤ 58) : TPk c σ0 bs (uf σ k i v) s := by
  obtain ⟨a1, a2, a3, a4, a5⟩ := h
  exact ⟨a1.uf (Or.inr ⟨h1, h2⟩), a2.uf (by omega), a3.puf (by intro u; unfold usd at u; omega), a4, a5⟩
theorem TPk.ux2 {c : Nat} {σ0 : TS} {bs : List Nat} {σ : TS} {s : PS} {k : Nat} {v : Int32} (h : TPk c σ0 bs σ s) (hk : 49 ≤ k ∧ k ≤ 61) : TPk c σ0 bs (ux σ k v) s := by
  obtain ⟨a1, a2, a3, a4, a5⟩ := h
  exact ⟨a1.ux (by omega), a2.ux (by omega), a3.pux, by rw [sx_ux, if_neg (by omega)]; exact a4, a5⟩
theorem tt_knownS {c : Nat} {σ0 : TS} {bs : List Nat} {o t : Nat} {σ : TS} {s : PS} {w : Nat} {a b : Int32} (h : TT c σ0 bs o t σ s) (hw : 3 ≤ w ∧ w < 6) (hi : atI w a b (pA s) = (atF w (pA s)).length) (h6 : atI w a b (pA s) ≠ 6) : TT c σ0 bs o t (ux (uf (uf (uf σ 52 (atI w a b (pA s)) (nI w)) 53 (atI w a b (pA s)) a) 54 (atI w a b (pA s)) b) 55 (nI (atI w a b (pA s) + 1))) (s.1, s.2.1, pA s ++ [(w, a, b, atI w a b (pA s))]) := by
  obtain ⟨h0, ⟨b1, b2⟩, b3, b4, b5⟩ := h
  have eF : atF w (pA s) = atF 3 (pA s) := atF_lo (by omega) _
  have hl : (atF w (pA s)).length ≤ 6 := by rw [eF]; exact b1.2.1
  have p : TPk c σ0 bs (ux (uf (uf (uf σ 52 (atI w a b (pA s)) (nI w)) 53 (atI w a b (pA s)) a) 54 (atI w a b (pA s)) b) 55 (nI (atI w a b (pA s) + 1))) s := TPk.ux2 (TT.pf2 (o := o) (t := t) (TT.pf2 (o := o) (t := t) (TT.pf2 (o := o) (t := t) h0 (by omega) (by omega)) (by omega) (by omega)) (by omega) (by omega)) (by omega)
  refine ⟨p, ⟨?_, ?_⟩, by rw [sx_ux, if_neg (by omega)]; exact b3, by rw [sx_ux, if_neg (by omega)]; exact b4, b5⟩
  · show atT _ 52 53 54 55 (atF 3 (pA s ++ [(w, a, b, atI w a b (pA s))]))
    rw [atF_snoc, if_pos (by show decide (w < 6) = decide (3 < 6); rw [decide_eq_true hw.2]; rfl)]
    exact b1.add (i := atI w a b (pA s)) (k := (w, a, b, atI w a b (pA s))) (by rw [hi, eF]) (by omega) (by show w ≤ 9; omega) (by omega) (by omega) (by omega)
  · show atT _ 56 57 58 59 (atF 6 (pA s ++ [(w, a, b, atI w a b (pA s))]))
    rw [atF_snoc, if_neg (by show ¬ decide (w < 6) = decide (6 < 6); rw [decide_eq_true hw.2]; decide)]
    have b2' := ((b2.wr (k := 52) (i := atI w a b (pA s)) (v := nI w) (by omega) (by omega) (by omega)).wr (k := 53) (i := atI w a b (pA s)) (v := a) (by omega) (by omega) (by omega)).wr (k := 54) (i := atI w a b (pA s)) (v := b) (by omega) (by omega) (by omega)
    exact ⟨by rw [sx_ux, if_neg (by omega)]; exact b2'.1, b2'.2⟩
theorem tt_knownC {c : Nat} {σ0 : TS} {bs : List Nat} {o t : Nat} {σ : TS} {s : PS} {w : Nat} {a b : Int32} (h : TT c σ0 bs o t σ s) (hw : 6 ≤ w ∧ w ≤ 9) (hi : atI w a b (pA s) = (atF w (pA s)).length) (h6 : atI w a b (pA s) ≠ 6) : TT c σ0 bs o t (ux (uf (uf (uf σ 56 (atI w a b (pA s)) (nI w)) 57 (atI w a b (pA s)) a) 58 (atI w a b (pA s)) b) 59 (nI (atI w a b (pA s) + 1))) (s.1, s.2.1, pA s ++ [(w, a, b, atI w a b (pA s))]) := by
  obtain ⟨h0, ⟨b1, b2⟩, b3, b4, b5⟩ := h
  have eF : atF w (pA s) = atF 6 (pA s) := atF_hi (by omega) _
  have hl : (atF w (pA s)).length ≤ 6 := by rw [eF]; exact b2.2.1
  have p : TPk c σ0 bs (ux (uf (uf (uf σ 56 (atI w a b (pA s)) (nI w)) 57 (atI w a b (pA s)) a) 58 (atI w a b (pA s)) b) 59 (nI (atI w a b (pA s) + 1))) s := TPk.ux2 (TT.pf2 (o := o) (t := t) (TT.pf2 (o := o) (t := t) (TT.pf2 (o := o) (t := t) h0 (by omega) (by omega)) (by omega) (by omega)) (by omega) (by omega)) (by omega)
  refine ⟨p, ⟨?_, ?_⟩, by rw [sx_ux, if_neg (by omega)]; exact b3, by rw [sx_ux, if_neg (by omega)]; exact b4, b5⟩
  · show atT _ 52 53 54 55 (atF 3 (pA s ++ [(w, a, b, atI w a b (pA s))]))
    rw [atF_snoc, if_neg (by show ¬ decide (w < 6) = decide (3 < 6); rw [decide_eq_false (by omega)]; decide)]
    have b1' := ((b1.wr (k := 56) (i := atI w a b (pA s)) (v := nI w) (by omega) (by omega) (by omega)).wr (k := 57) (i := atI w a b (pA s)) (v := a) (by omega) (by omega) (by omega)).wr (k := 58) (i := atI w a b (pA s)) (v := b) (by omega) (by omega) (by omega)
    exact ⟨by rw [sx_ux, if_neg (by omega)]; exact b1'.1, b1'.2⟩
  · show atT _ 56 57 58 59 (atF 6 (pA s ++ [(w, a, b, atI w a b (pA s))]))
    rw [atF_snoc, if_pos (by show decide (w < 6) = decide (6 < 6); rw [decide_eq_false (by omega)]; rfl)]
    exact b2.add (i := atI w a b (pA s)) (k := (w, a, b, atI w a b (pA s))) (by rw [hi, eF]) (by omega) (by show w ≤ 9; omega) (by omega) (by omega) (by omega)
theorem tt_spanC {c : Nat} {σ0 : TS} {bs : List Nat} {o t : Nat} {σ : TS} {s : PS} {w : Nat} {post : Int32 → TS → Prop} (h : TT c σ0 bs o t σ s) (hw : 3 ≤ w ∧ w < 6) (hcn : cnL s < 400) (h1 : ∀ q σ', pSpanC bs w s = .ok q → TT c σ0 bs o t σ' q.2 → post (nI q.1) σ') (h2 : ∀ f σ' v, pSpanC bs w s = .error f → BD c σ0 σ' f → post v σ') : wp_spanCond post σ (nI w) := by
  refine ⟨fun z d => NF σ z ∧ LK bs z (nxt bs s).1 ∧ d = decide (w = 5), ?_, ?_⟩
  · rintro z3 d ⟨n3, L3, rfl⟩
    refine tn_span L3 (fun z5 n5 o5 => ?_)
    have N5 := n3.tr n5
    cases hs : pSpan bs (decide (w = 5)) false (nxt bs s) with
    | error f =>
      rw [hs] at o5
      have g : FL z5 f := o5
      refine ⟨fun z => absurd z g.nle, fun _ => h2 f z5 _ ?_ ⟨h.pf.nf N5, g⟩⟩
      unfold pSpanC
      rw [hs]; rfl
    | ok r =>
      obtain ⟨sp, s1⟩ := r
      rw [hs] at o5
      obtain ⟨L5, q49, q50, q51⟩ := o5
      have e1 : s1.2 = s.2 := (pSpan_ok hs).1
      have T5 : TT c σ0 bs o t z5 s1 := h.nf N5 L5 e1
      have eP : pSpanC bs w s = pAtom (pAt (nxt bs s)) w sp.1 sp.2 s1 := by
        unfold pSpanC
        rw [hs]; rfl
      have eF : atF w (pA s1) = atF 3 (pA s1) := atF_lo hw.2 _
      have hl := atI_le w sp.1 sp.2 (pA s1)
      obtain ⟨a1, a2, a3⟩ := T5.2.1.1
      rw [← eF] at a1 a2
      have hcn1 : cnL s1 = cnL s := by show (eCn s1.2.1).length = _; rw [e1]
      have hat : pAt (nxt bs s) ≤ 900 := L3.at
      refine ⟨fun _ => ⟨fun n z x => ∃ j, j ≤ atI w sp.1 sp.2 (pA s1) ∧ n = 6 - j ∧ z = z5 ∧ x = nI j, ⟨6, 0, Nat.zero_le _, rfl, rfl, rfl⟩, ?_⟩, fun z => absurd L5.le z⟩
      rintro n8 z9 x12 ⟨j, hj, hn8, rfl, hx12⟩
      refine ⟨fun z x => z = z9 ∧ x = nI (atI w sp.1 sp.2 (pA s1)), ?_, ?_⟩
      · rintro z16 x17 ⟨rfl, hx17⟩
        rw [hx17]
        refine ⟨fun z6 => ?_, fun z6 => ?_⟩
        · have hn6 : atI w sp.1 sp.2 (pA s1) ≠ 6 := fun v => z6 (by rw [v])
          have eQ : pAtom (pAt (nxt bs s)) w sp.1 sp.2 s1 = .ok (nwC (s1.1, s1.2.1, if atI w sp.1 sp.2 (pA s1) = (atF w (pA s1)).length then pA s1 ++ [(w, sp.1, sp.2, atI w sp.1 sp.2 (pA s1))] else pA s1) (w, sp.1, sp.2, atI w sp.1 sp.2 (pA s1))) := if_neg hn6
          refine ⟨fun z => sx z 49 = sp.1 ∧ sx z 50 = sp.2 ∧ TT c σ0 bs o t z (s1.1, s1.2.1, if atI w sp.1 sp.2 (pA s1) = (atF w (pA s1)).length then pA s1 ++ [(w, sp.1, sp.2, atI w sp.1 sp.2 (pA s1))] else pA s1), ?_, ?_⟩
          · rintro z21 ⟨v49, v50, T21⟩
            rw [v49, v50]
            refine tt_newCond (u' := atI w sp.1 sp.2 (pA s1)) T21 (by show cnL s1 < 400; omega) (fun _ => rfl) (fun z22 T22 => ?_)
            exact h1 _ z22 (eP.trans eQ) T22
          · rw [a1]
            refine ⟨fun v => ⟨q49, q50, ?_⟩, fun v => ⟨vp_inN (by omega) (by omega), fun z25 hz25 => ⟨vp_inN (by omega) (by omega), fun z26 hz26 => ⟨vp_inN (by omega) (by omega), fun z27 hz27 z28 hz28 => ?_⟩⟩⟩⟩
            · rw [if_neg (fun u => v (by rw [u]))]
              exact T5
            · have he : atI w sp.1 sp.2 (pA s1) = (atF w (pA s1)).length := (nI_eq (by omega) (by omega)).mp v
              rw [nI_clamp (by omega)] at hz25 hz26 hz27
              have w49 : sx z25 49 = sp.1 := by rw [hz25, sx_uf]; exact q49
              have w50 : sx z26 50 = sp.2 := by rw [hz26, sx_uf, hz25, sx_uf]; exact q50
              have w55 : sx z27 55 = nI (atI w sp.1 sp.2 (pA s1)) := by rw [hz27, sx_uf, hz26, sx_uf, hz25, sx_uf, a1, he]
              rw [w49] at hz26
              rw [w50] at hz27
              rw [w55, nI_add] at hz28
              refine ⟨?_, ?_, ?_⟩
              · rw [hz28, sx_ux, if_neg (by omega), hz27, sx_uf, hz26, sx_uf]; exact w49
              · rw [hz28, sx_ux, if_neg (by omega), hz27, sx_uf]; exact w50
              · rw [if_pos he, hz28, hz27, hz26, hz25]
                exact tt_knownS T5 hw he hn6
        · have h6 : atI w sp.1 sp.2 (pA s1) = 6 := (nI_eq (by omega) (by omega)).mp z6
          have eQ : pAtom (pAt (nxt bs s)) w sp.1 sp.2 s1 = .error (8 * pAt (nxt bs s) + 4) := if_pos h6
          rw [q51]
          exact tn_wrongAt L5.2.1 (by omega) hat (fun z30 n30 g => h2 _ z30 _ (eP.trans eQ) ⟨T5.pf.nf n30, g⟩)
      · rw [a1, hx12]
        refine ⟨fun z => ⟨rfl, ?_⟩, fun z => ?_⟩
        · have : (atF w (pA s1)).length ≤ j := (nI_leI (by omega) (by omega)).mp z
          rw [show j = atI w sp.1 sp.2 (pA s1) by omega]
        · have hlt : j < (atF w (pA s1)).length := by
            rcases Nat.lt_or_ge j (atF w (pA s1)).length with v | v
            · exact v
            · exact absurd (nI_le v (by omega)) z
          have hrow := a3 j (by rw [← eF]; exact hlt)
          simp only [← eF] at hrow
          obtain ⟨r1, r9, r2, r3⟩ := hrow
          rw [nI_clamp (by omega), r1, r2, r3, q49, q50]
          have nxtj : ¬ ((atF w (pA s1))[j].1 = w ∧ (atF w (pA s1))[j].2.1 = sp.1 ∧ (atF w (pA s1))[j].2.2.1 = sp.2) → ∃ n33, n33 < n8 ∧ ∃ j', j' ≤ atI w sp.1 sp.2 (pA s1) ∧ n33 = 6 - j' ∧ z9 = z9 ∧ nI j + nI 1 = nI j' := by
            intro hno
            have : j ≠ atI w sp.1 sp.2 (pA s1) := by
              intro v
              subst v
              exact hno (atI_at hlt)
            exact ⟨6 - (j + 1), by omega, j + 1, by omega, rfl, rfl, nI_add j 1⟩
          refine ⟨vp_inN (by omega) (by omega), fun v => nxtj (fun u => v (by rw [u.1])), fun v => ⟨vp_inN (by omega) (by omega), fun v2 => nxtj (fun u => v2 u.2.1), fun v2 => ⟨vp_inN (by omega) (by omega), fun v3 => ⟨rfl, ?_⟩, fun v3 => nxtj (fun u => v3 u.2.2)⟩⟩⟩
          rw [← atI_eq hlt hj ⟨(nI_eq (by omega) (by omega)).mp v, v2, v3⟩]
  · refine tn_nxt h.lk (fun z41 n41 L41 _ => ⟨fun v => ⟨n41, L41, (decide_eq_false (fun u => v (by rw [u]))).symm⟩, fun v => ⟨n41, L41, (decide_eq_true ((nI_eq (by omega) (by omega)).mp v)).symm⟩⟩)
theorem tt_comp {c : Nat} {σ0 : TS} {bs : List Nat} {o t : Nat} {σ : TS} {s : PS} {w : Nat} {post : Int32 → TS → Prop} (h : TT c σ0 bs o t σ s) (hw : 6 ≤ w ∧ w ≤ 9) (hcn : cnL s < 400) (h1 : ∀ q σ', pComp bs w s = .ok q → TT c σ0 bs o t σ' q.2 → post (nI q.1) σ') (h2 : ∀ f σ' v, pComp bs w s = .error f → BD c σ0 σ' f → post v σ') : wp_comparison post σ (nI w) := by
  have hat : pAt s ≤ 900 := h.lk.at
  refine ⟨fun z x y => x = nI (pAt s) ∧ NF σ z ∧ LK bs z (nxt bs s).1 ∧ ((isS (nxt bs s) 60 = true ∧ y = nI 0) ∨ (isS (nxt bs s) 60 = false ∧ isS (nxt bs s) 62 = true ∧ y = nI 1) ∨ (isS (nxt bs s) 60 = false ∧ isS (nxt bs s) 62 = false ∧ y = -1)), ?_, ?_⟩
  · rintro z3 x4 x5 ⟨hx4, n3, L3, hsg⟩
    refine ⟨fun z x => (z = z3 ∧ ¬ (isS (nxt bs s) 60 = false ∧ isS (nxt bs s) 62 = false) ∧ x = (if isS (nxt bs s) 60 = true then 0 else nI 1)) ∨ (BD c σ0 z (8 * pAt (nxt bs s) + 1) ∧ pComp bs w s = .error (8 * pAt (nxt bs s) + 1)), ?_, ?_⟩
    · rintro z8 x9 (⟨rfl, hS, hx9⟩ | ⟨g, e⟩)
      · have eC : pComp bs w s = bnd (pNum bs 0 999 (nxt bs (nxt bs s))) (fun r => pAtom (pAt s) w (if isS (nxt bs s) 60 = true then 0 else nI 1) r.1 r.2) := if_neg hS
        rw [← hx9] at eC
        refine tn_nxt L3 (fun z10 n10 L10 _ => tn_number (lo := 0) (hi := 999) L10 (by omega) (fun z11 v s1 n11 ev L5 _ => ?_) (fun z11 f v n11 g ev => ⟨fun z => absurd z g.nle, fun _ => h2 f z11 _ ?_ ⟨h.pf.nf ((n3.tr n10).tr n11), g⟩⟩))
        · have N5 := (n3.tr n10).tr n11
          have e1 : s1.2 = s.2 := (pNum_ok ev).1
          have T5 : TT c σ0 bs o t z11 s1 := h.nf N5 L5 e1
          have eP : pComp bs w s = pAtom (pAt s) w x9 v s1 := by
            rw [eC, ev]; rfl
          have eF : atF w (pA s1) = atF 6 (pA s1) := atF_hi hw.1 _
          have hl := atI_le w x9 v (pA s1)
          obtain ⟨a1, a2, a3⟩ := T5.2.1.2
          rw [← eF] at a1 a2
          have hcn1 : cnL s1 = cnL s := by show (eCn s1.2.1).length = _; rw [e1]
          refine ⟨fun _ => ⟨fun n z x => ∃ j, j ≤ atI w x9 v (pA s1) ∧ n = 6 - j ∧ z = z11 ∧ x = nI j, ⟨6, 0, Nat.zero_le _, rfl, rfl, rfl⟩, ?_⟩, fun z => absurd L5.le z⟩
          rintro n15 z16 x19 ⟨j, hj, hn8, rfl, hx12⟩
          refine ⟨fun z x => z = z16 ∧ x = nI (atI w x9 v (pA s1)), ?_, ?_⟩
          · rintro z23 x24 ⟨rfl, hx17⟩
            rw [hx17]
            refine ⟨fun z6 => ?_, fun z6 => ?_⟩
            · have hn6 : atI w x9 v (pA s1) ≠ 6 := fun v => z6 (by rw [v])
              have eQ : pAtom (pAt s) w x9 v s1 = .ok (nwC (s1.1, s1.2.1, if atI w x9 v (pA s1) = (atF w (pA s1)).length then pA s1 ++ [(w, x9, v, atI w x9 v (pA s1))] else pA s1) (w, x9, v, atI w x9 v (pA s1))) := if_neg hn6
              refine ⟨fun z => TT c σ0 bs o t z (s1.1, s1.2.1, if atI w x9 v (pA s1) = (atF w (pA s1)).length then pA s1 ++ [(w, x9, v, atI w x9 v (pA s1))] else pA s1), ?_, ?_⟩
              · rintro z28 T21
                refine tt_newCond (u' := atI w x9 v (pA s1)) T21 (by show cnL s1 < 400; omega) (fun _ => rfl) (fun z22 T22 => ?_)
                exact h1 _ z22 (eP.trans eQ) T22
              · rw [a1]
                refine ⟨fun hv => ?_, fun hv => ⟨vp_inN (by omega) (by omega), fun z25 hz25 => ⟨vp_inN (by omega) (by omega), fun z26 hz26 => ⟨vp_inN (by omega) (by omega), fun z27 hz27 z28 hz28 => ?_⟩⟩⟩⟩
                · rw [if_neg (fun u => hv (by rw [u]))]
                  exact T5
                · have he : atI w x9 v (pA s1) = (atF w (pA s1)).length := (nI_eq (by omega) (by omega)).mp hv
                  rw [nI_clamp (by omega)] at hz25 hz26 hz27
                  have w55 : sx z27 59 = nI (atI w x9 v (pA s1)) := by rw [hz27, sx_uf, hz26, sx_uf, hz25, sx_uf, a1, he]
                  rw [w55, nI_add] at hz28
                  rw [if_pos he, hz28, hz27, hz26, hz25]
                  exact tt_knownC T5 hw he hn6
            · have h6 : atI w x9 v (pA s1) = 6 := (nI_eq (by omega) (by omega)).mp z6
              have eQ : pAtom (pAt s) w x9 v s1 = .error (8 * pAt s + 4) := if_pos h6
              rw [hx4]
              exact tn_wrongAt L5.2.1 (by omega) hat (fun z30 n30 g => h2 _ z30 _ (eP.trans eQ) ⟨T5.pf.nf n30, g⟩)
          · rw [a1, hx12]
            refine ⟨fun z => ⟨rfl, ?_⟩, fun z => ?_⟩
            · have : (atF w (pA s1)).length ≤ j := (nI_leI (by omega) (by omega)).mp z
              rw [show j = atI w x9 v (pA s1) by omega]
            · have hlt : j < (atF w (pA s1)).length := by
                rcases Nat.lt_or_ge j (atF w (pA s1)).length with v | v
                · exact v
                · exact absurd (nI_le v (by omega)) z
              have hrow := a3 j (by rw [← eF]; exact hlt)
              simp only [← eF] at hrow
              obtain ⟨r1, r9, r2, r3⟩ := hrow
              rw [nI_clamp (by omega), r1, r2, r3]
              have nxtj : ¬ ((atF w (pA s1))[j].1 = w ∧ (atF w (pA s1))[j].2.1 = x9 ∧ (atF w (pA s1))[j].2.2.1 = v) → ∃ n33, n33 < n15 ∧ ∃ j', j' ≤ atI w x9 v (pA s1) ∧ n33 = 6 - j' ∧ z16 = z16 ∧ nI j + nI 1 = nI j' := by
                intro hno
                have : j ≠ atI w x9 v (pA s1) := by
                  intro v
                  subst v
                  exact hno (atI_at hlt)
                exact ⟨6 - (j + 1), by omega, j + 1, by omega, rfl, rfl, nI_add j 1⟩
              refine ⟨vp_inN (by omega) (by omega), fun v => nxtj (fun u => v (by rw [u.1])), fun v => ⟨vp_inN (by omega) (by omega), fun v2 => nxtj (fun u => v2 u.2.1), fun v2 => ⟨vp_inN (by omega) (by omega), fun v3 => ⟨rfl, ?_⟩, fun v3 => nxtj (fun u => v3 u.2.2)⟩⟩⟩
              rw [← atI_eq hlt hj ⟨(nI_eq (by omega) (by omega)).mp v, v2, v3⟩]
        · rw [eC, ev]; rfl
      · exact tb_next g.2 (tb_number g.2 (fun v => ⟨fun z => absurd z g.2.nle, fun _ => h2 _ z8 _ e g⟩))
    · rcases hsg with ⟨k1, hy⟩ | ⟨k1, k2, hy⟩ | ⟨k1, k2, hy⟩
      · rw [hy]
        exact ⟨fun _ => Or.inl ⟨rfl, fun v => (by rw [k1] at v; cases v.1), by rw [k1]; rfl⟩, fun z => absurd (by decide) z⟩
      · rw [hy]
        exact ⟨fun _ => Or.inl ⟨rfl, fun v => (by rw [k2] at v; cases v.2), by rw [k1]; rfl⟩, fun z => absurd (by decide) z⟩
      · rw [hy]
        refine ⟨fun z => absurd z (by decide), fun _ => tn_wrong (α := Nat × PS) L3 (by omega) (fun z f n g e => ?_)⟩
        have ef : f = 8 * pAt (nxt bs s) + 1 := by cases e; rfl
        subst ef
        exact Or.inr ⟨⟨h.pf.nf (n3.tr n), g⟩, if_pos ⟨k1, k2⟩⟩
  · intro x51 hx51
    have e43 : x51 = nI (pAt s) := hx51.trans h.lk.2.2.1.1
    refine tn_nxt h.lk (fun z52 n52 L52 _ => tn_isSign L52 (by omega) ⟨fun k1 => tn_isSign L52 (by omega) ⟨fun k2 => ⟨e43, n52, L52, Or.inr (Or.inr ⟨k1, k2, rfl⟩)⟩, fun k2 => ⟨e43, n52, L52, Or.inr (Or.inl ⟨k1, k2, rfl⟩)⟩⟩, fun k1 => ⟨e43, n52, L52, Or.inl ⟨k1, rfl⟩⟩⟩)
