/-! The model: answers laid over a tree -/
set_option maxRecDepth 100000
theorem tsp_isBy {σ : TS} {d : Nat} {cs : List Cn} {sp cm : Int32} (hd : d < 3) (en : sx σ 29 = nI d) (hC : cnT σ d cs) (ho : cOk2 cs) : ∀ (i n : Nat) (post : Bool → TS → Prop), i < cs.length → i < n → post (vl (evC sp cm) cs i) σ → wp_isBy n post σ (nI i) sp cm := by
  obtain ⟨hl, hl4, hc⟩ := hC
  have hok := ho.ok hl4
  intro i
  induction i using Nat.strongRecOn with
  | _ i ih =>
    intro n post hi hn1 hp
    cases n with
    | zero => exact absurd hn1 (Nat.not_lt_zero _)
    | succ n =>
      show wb_isBy (wp_isBy n) post σ (nI i) sp cm
      intro x1 hx1
      rw [en, nI_mul, nI_add] at hx1
      subst hx1
      refine ⟨fun m z x => z = σ ∧ ∃ j, x = nI (400 * d + j) ∧ j ≤ i ∧ m = j ∧ vl (evC sp cm) cs j = vl (evC sp cm) cs i, ⟨_, rfl, i, rfl, Nat.le_refl _, rfl, rfl⟩, ?_⟩
      rintro m z x ⟨hz, j, rfl, hji, rfl, hv⟩
      subst hz
      have hj : m < cs.length := by omega
      obtain ⟨q1, q2, q3, q4⟩ := hc m hj
      have hkj : cs[m]? = some cs[m] := List.getElem?_eq_getElem hj
      obtain ⟨b1, b2, b3, b4⟩ := ho m _ hkj
      rw [nI_clamp (show 400 * d + m < 2 ^ 31 by omega)]
      refine ⟨vp_inN (by omega) (by omega), fun h0 => ?_, fun h0 => ?_⟩
      · rw [q1] at h0
        have h0' : cs[m].1 ≠ 0 := fun e => h0 (by rw [e]; decide)
        refine ⟨fun m2 z2 x => z2 = z ∧ ∃ j2, x = nI (400 * d + j2) ∧ j2 ≤ m ∧ (j2 < i ∨ ∃ k2, cs[j2]? = some k2 ∧ k2.1 ≠ 0) ∧ m2 = j2 ∧ vl (evC sp cm) cs j2 = vl (evC sp cm) cs i, ⟨_, rfl, m, rfl, Nat.le_refl _, Or.inr ⟨_, hkj, h0'⟩, rfl, hv⟩, ?_⟩
        rintro m2 z2 x ⟨hz2, j2, rfl, hj2, hor, rfl, hv2⟩
        subst hz2
        have hjl : m2 < cs.length := by omega
        obtain ⟨p1, p2, p3, p4⟩ := hc m2 hjl
        have hkj2 : cs[m2]? = some cs[m2] := List.getElem?_eq_getElem hjl
        obtain ⟨t1, t2, t3, t4⟩ := ho m2 _ hkj2
        rw [nI_clamp (show 400 * d + m2 < 2 ^ 31 by omega)]
        have hvp : vp_in (nI (400 * d + m2)) 1200 := vp_inN (by omega) (by omega)
        refine ⟨hvp, fun h1 => ?_, fun h1 => ?_⟩
        · rw [p1] at h1
          have h1' : cs[m2].1 ≠ 1 := fun e => h1 (by rw [e])
          refine ⟨hvp, fun x18 hx18 => ?_⟩
          rw [p1] at hx18
          subst hx18
          refine ⟨fun e0 => ⟨fun e2 => ?_, fun e2 => ⟨hvp, ?_⟩⟩, fun e0 => ?_⟩
          · have n0 : cs[m2].1 ≠ 0 := fun z => e0 (by rw [z]; decide)
            have n2 : cs[m2].1 ≠ 2 := fun z => e2 (by rw [z])
            rw [← hv2, vl_atom hkj2 (by omega), evC] at hp
            refine ⟨fun z23 x24 => z23 = z2 ∧ x24 = if cs[m2].1 < 6 then sp else cm, ?_, fun hge => ⟨rfl, ?_⟩, fun hge => ⟨rfl, ?_⟩⟩
            · rintro z23 x24 ⟨hz3, rfl⟩
              subst hz3
              rw [p4 (by omega)]
              refine ⟨hvp, fun hne => ?_, fun he => ?_⟩
              · rw [bt, decide_eq_false hne] at hp; exact hp
              · rw [bt, decide_eq_true he] at hp; exact hp
            · have := (nI_leI (by omega) (by omega)).mp hge
              rw [if_neg (by omega)]
            · rw [if_pos ?_]
              rcases Nat.lt_or_ge cs[m2].1 6 with z | z
              · exact z
              · exact absurd (nI_le z (by omega)) hge
          · have e := nI_i t1 (by omega) e2
            obtain ⟨a, ea, la⟩ := t3 e
            have hx := vl_not (F := evC sp cm) hok hkj2 e
            rw [ea, ix, nI_clamp (by omega)] at hx
            rw [← hv2, hx] at hp
            rw [p2, ea]
            refine ih a (by omega) n _ (by omega) (by omega) ⟨fun hb => ?_, fun hb => ?_⟩
            · rw [hb] at hp; exact hp
            · rw [hb] at hp; exact hp
          · have e : cs[m2].1 = 0 := nI_i t1 (by omega) (e0.trans nI_0.symm)
            have hlt : m2 < i := by
              rcases hor with z1 | ⟨k2, z1, z2⟩
              · exact z1
              · rw [hkj2] at z1; cases z1; exact absurd e z2
            rw [← hv2] at hp
            rw [en, nI_mul, nI_sub (show 400 * d ≤ 400 * d + m2 by omega), Nat.add_sub_cancel_left]
            exact ih m2 hlt n _ hjl (by omega) hp
        · rw [p1] at h1
          have e := nI_i t1 (by omega) h1
          obtain ⟨a, b, ea, la, eb, lb⟩ := t2 (by omega)
          have hx := vl_and (F := evC sp cm) hok hkj2 e
          rw [ea, eb, ix, ix, nI_clamp (by omega), nI_clamp (by omega)] at hx
          rw [p3, eb]
          refine ⟨hvp, ih b (by omega) n _ (by omega) (by omega) ⟨fun hb => ⟨hvp, fun x80 hx80 => ?_⟩, fun hb => ?_⟩⟩
          · rw [en, p2, ea, nI_mul, nI_add] at hx80
            subst hx80
            refine ⟨a, la, rfl, a, rfl, by omega, Or.inl (by omega), rfl, ?_⟩
            rw [← hv2, hx, hb, Bool.and_true]
          · rw [← hv2, hx, hb, Bool.and_false] at hp
            exact hp
      · rw [q1] at h0
        have e : cs[m].1 = 0 := nI_i b1 (by omega) (h0.trans nI_0.symm)
        obtain ⟨a, b, ea, la, eb, lb⟩ := b2 (by omega)
        have hx := vl_or (F := evC sp cm) hok hkj e
        rw [ea, eb, ix, ix, nI_clamp (by omega), nI_clamp (by omega)] at hx
        rw [q3, eb]
        refine ⟨vp_inN (by omega) (by omega), ih b (by omega) n _ (by omega) (by omega) ⟨fun hb => ⟨vp_inN (by omega) (by omega), fun x87 hx87 => ?_⟩, fun hb => ?_⟩⟩
        · rw [en, q2, ea, nI_mul, nI_add] at hx87
          subst hx87
          refine ⟨a, la, rfl, a, rfl, by omega, rfl, ?_⟩
          rw [← hv, hx, hb, Bool.or_false]
        · rw [← hv, hx, hb, Bool.or_true] at hp
          exact hp
/-- what laying answers changes -/
def LF (σ σ' : TS) : Prop := (∀ k, k ≠ 66 → k ≠ 71 → sx σ' k = sx σ k) ∧ (∀ a j, sg σ' a j = sg σ a j) ∧ ∀ a j, a < 67 → sf σ' a j = sf σ a j
theorem LF.rf (σ : TS) : LF σ σ := ⟨fun _ _ _ => rfl, fun _ _ => rfl, fun _ _ _ => rfl⟩
theorem LF.tr {a b c : TS} (h : LF a b) (k : LF b c) : LF a c := ⟨fun i z y => (k.1 i z y).trans (h.1 i z y), fun i j => (k.2.1 i j).trans (h.2.1 i j), fun i j z => (k.2.2 i j z).trans (h.2.2 i j z)⟩
theorem LF.ux {σ σ' : TS} {k : Nat} {v : Int32} (h : LF σ σ') (hk : k = 66 ∨ k = 71) : LF σ (ux σ' k v) := ⟨fun i h1 h2 => by rw [sx_ux, if_neg (by omega)]; exact h.1 i h1 h2, h.2.1, h.2.2⟩
theorem LF.uf {σ σ' : TS} {a i : Nat} {v : Int32} (h : LF σ σ') (ha : 67 ≤ a) : LF σ (uf σ' a i v) := ⟨h.1, h.2.1, fun b j hb => by rw [sf_uf, if_neg (by omega)]; exact h.2.2 b j hb⟩
theorem RepT.l {σ σ' : TS} {d : Nat} {E : Ed} (h : RepT σ d E) (q : LF σ σ') : RepT σ' d E := h.same (fun a j _ _ _ => q.2.2 a j (by omega)) (fun a j _ _ => q.2.1 a j)
/-- which leaves are marked -/
def RB (z : TS) (P : Nat → Prop) : Prop := ∀ n, n < 40 → (sf z 68 n = nI 1 ∧ P n) ∨ (sf z 68 n = nI 0 ∧ ¬ P n)
theorem RB.iff {z : TS} {P Q : Nat → Prop} (h : RB z P) (hi : ∀ n, P n ↔ Q n) : RB z Q := fun n hn => by
  rcases h n hn with ⟨h1, h2⟩ | ⟨h1, h2⟩
  · exact Or.inl ⟨h1, (hi n).mp h2⟩
  · exact Or.inr ⟨h1, fun z => h2 ((hi n).mpr z)⟩
def inR (f v : Nat) : Prop := (f = 0 ∧ v ≤ 120) ∨ (f = 1 ∧ 1 ≤ v ∧ v ≤ 400) ∨ (f = 2 ∧ v ≤ 3) ∨ (f = 3 ∧ v ≤ 9)
/-- rows of sets of answers: of the fact f from A f on -/
def AN (z : TS) (E : Ed) (ct : Nat → Nat) (c : Nat) (A : Nat → Nat) : Prop := (∀ f, f < 5 → sf z 70 f = nI (A f) ∧ A f ≤ 1700) ∧ ∀ f, f < 4 → A f ≤ A (f + 1) ∧ (∀ j, A f ≤ j → j < A (f + 1) → ∃ v, inR f v ∧ sf z 69 j = stv (eCn E) ct c (6 + f) (nI v) (eCn E).length) ∧ ∀ v, inR f v → ∃ j, A f ≤ j ∧ j < A (f + 1) ∧ sf z 69 j = stv (eCn E) ct c (6 + f) (nI v) (eCn E).length
/-- reached by the facts from 4 - k on -/
def RS (E : Ed) (ct : Nat → Nat) (c : Nat) (r : Nat) (sp : Int32) : Nat → Int32 → Nat → Prop
  | 0, cm, n => (gn (evC sp cm) (eNd E) (eCn E) 40 r).1 = n
  | k + 1, cm, n => ∃ v, inR (3 - k) v ∧ RS E ct c r sp k (cm ||| stv (eCn E) ct c (6 + (3 - k)) (nI v) (eCn E).length) n
/-- only the marks are others -/
def MF (σ σ' : TS) : Prop := (∀ k, sx σ' k = sx σ k) ∧ (∀ a j, sg σ' a j = sg σ a j) ∧ ∀ a j, a ≠ 68 → sf σ' a j = sf σ a j
theorem MF.rf (σ : TS) : MF σ σ := ⟨fun _ => rfl, fun _ _ => rfl, fun _ _ _ => rfl⟩
theorem MF.tr {a b c : TS} (h : MF a b) (k : MF b c) : MF a c := ⟨fun i => (k.1 i).trans (h.1 i), fun i j => (k.2.1 i j).trans (h.2.1 i j), fun i j z => (k.2.2 i j z).trans (h.2.2 i j z)⟩
theorem MF.l {σ σ' : TS} (h : MF σ σ') : LF σ σ' := ⟨fun k _ _ => h.1 k, h.2.1, fun a j ha => h.2.2 a j (by omega)⟩
theorem AN.m {z z' : TS} {E : Ed} {ct : Nat → Nat} {c : Nat} {A : Nat → Nat} (h : AN z E ct c A) (q : MF z z') : AN z' E ct c A := by
  refine ⟨fun f hf => ⟨(q.2.2 _ _ (by omega)).trans (h.1 f hf).1, (h.1 f hf).2⟩, fun f hf => ?_⟩
  obtain ⟨h1, h2, h3⟩ := h.2 f hf
  refine ⟨h1, fun j a b => ?_, fun v hv => ?_⟩
  · obtain ⟨v, w1, w2⟩ := h2 j a b
    exact ⟨v, w1, (q.2.2 _ _ (by omega)).trans w2⟩
  · obtain ⟨j, w1, w2, w3⟩ := h3 v hv
    exact ⟨j, w1, w2, (q.2.2 _ _ (by omega)).trans w3⟩
theorem tsp_reaches {E : Ed} {ct : Nat → Nat} {d c r : Nat} {A : Nat → Nat} {sp : Int32} (hd : d < 3) (ho : EdOk E) (hc : c < (eCh E).length) (hr : (eCh E)[c].2.2 = nI r) (hrl : r < (eNd E).length) : ∀ (k m : Nat) (cm : Int32) (z : TS) (P : Nat → Prop) (post : TS → Prop), k ≤ 4 → k < m → sx z 29 = nI d → RepT z d E → AN z E ct c A → RB z P → (∀ z', MF z z' → RB z' (fun n => P n ∨ RS E ct c r sp k cm n) → post z') → wp_reaches m post z (nI c) sp (nI (4 - k)) cm := by
  intro k
  induction k with
  | zero =>
    intro m cm z P post _ hm en hR hA hB hp
    cases m with
    | zero => exact absurd hm (Nat.not_lt_zero _)
    | succ m =>
      have hl40 : (eNd E).length ≤ 40 := hR.2.2.2.2.2.1.2.1
      have hl6 : (eCh E).length ≤ 6 := hR.2.1.2.1
      have hc400 : (eCn E).length ≤ 400 := hR.2.2.2.2.2.2.2.1
      refine ⟨fun h => absurd rfl h, fun _ => ?_⟩
      rw [en, nI_mul, nI_add, nI_clamp (show 6 * d + c < 2 ^ 31 by omega), (hR.2.1.2.2 c hc).2.2.2.2, hr]
      refine ⟨vp_inN (by omega) (by omega), fun x15 hx15 => ?_⟩
      subst hx15
      refine ⟨fun f z2 x => z2 = z ∧ ∃ n, x = nI n ∧ n < (eNd E).length ∧ (eNd E).length ≤ n + f + 1 ∧ (gn (evC sp cm) (eNd E) (eCn E) 40 r).1 = (gn (evC sp cm) (eNd E) (eCn E) f n).1, ⟨40, rfl, r, rfl, hrl, by omega, rfl⟩, ?_⟩
      rintro f z2 x ⟨hz, n, rfl, hn, hf, hg⟩
      subst hz
      have hx : (eNd E)[n]? = some (eNd E)[n] := List.getElem?_eq_getElem hn
      obtain ⟨g1, g2, g3⟩ := hR.2.2.2.2.2.1.2.2 n hn
      have hvp : vp_in (nI (40 * d + n)) 120 := vp_inN (by omega) (by omega)
      rw [en, nI_mul 40 d, nI_add (40 * d) n, nI_clamp (show 40 * d + n < 2 ^ 31 by omega), g1]
      refine ⟨hvp, fun hge => ⟨vp_inN (by omega) (by omega), fun z24 hz24 => ?_⟩, fun hlt => ⟨hvp, ?_⟩⟩
      · have hnl : ¬ (eNd E)[n].1 < 0 := Int32.not_lt.mpr hge
        rw [gn_leaf hx hnl] at hg
        rw [nI_clamp (show n < 2 ^ 31 by omega)] at hz24
        refine hp z24 ⟨fun i => by rw [hz24, sx_uf], fun a j => by rw [hz24, sg_uf], fun a j ha => by rw [hz24, sf_uf, if_neg (by omega)]⟩ (fun n2 hn2 => ?_)
        rw [hz24, sf_uf]
        by_cases e : n2 = n
        · subst e
          exact Or.inl ⟨if_pos ⟨rfl, rfl⟩, Or.inr hg⟩
        · rw [if_neg (by omega)]
          rcases hB n2 hn2 with ⟨h1, h2⟩ | ⟨h1, h2⟩
          · exact Or.inl ⟨h1, Or.inl h2⟩
          · refine Or.inr ⟨h1, fun z => ?_⟩
            rcases z with z | z
            · exact h2 z
            · exact e ((show _ = n2 from z).symm.trans hg)
      · have hneg : (eNd E)[n].1 < 0 := Int32.not_le.mp hlt
        obtain ⟨u1, u2, u3, u4, u5⟩ := (ho.2.1 n _ hx).1 hneg
        obtain ⟨w21, w22, w23⟩ := g3 (by omega)
        cases f with
        | zero => omega
        | succ f =>
          rw [gn_step hx hneg] at hg
          rw [w21]
          refine tsp_isBy hd en hR.2.2.2.2.2.2 ho.1 _ _ _ u5 (by show _ < 401; omega) ⟨fun hb => ?_, fun hb => ?_⟩
          · rw [hb] at hg
            rw [en, nI_mul 40 d, nI_add (40 * d) n, nI_clamp (show 40 * d + n < 2 ^ 31 by omega), w23]
            exact ⟨hvp, fun x28 hx28 => ⟨f, by omega, rfl, _, hx28, u4, by omega, hg⟩⟩
          · rw [hb] at hg
            rw [en, nI_mul 40 d, nI_add (40 * d) n, nI_clamp (show 40 * d + n < 2 ^ 31 by omega), w22]
            exact ⟨hvp, fun x28 hx28 => ⟨f, by omega, rfl, _, hx28, u2, by omega, hg⟩⟩
  | succ k ih =>
    intro m cm z P post hk hm en hR hA hB hp
    cases m with
    | zero => exact absurd hm (Nat.not_lt_zero _)
    | succ m =>
      have hf4 : 3 - k < 4 := by omega
      obtain ⟨a1, a2, a3⟩ := hA.2 (3 - k) hf4
      have b1 := hA.1 (3 - k) (by omega)
      have b2 := hA.1 (3 - k + 1) (by omega)
      rw [show 4 - (k + 1) = 3 - k by omega]
      refine ⟨fun _ => ⟨vp_inN (by omega) (by omega), fun x2 hx2 => ?_⟩, fun h => absurd ((nI_eq (by omega) (by omega)).mp h) (by omega)⟩
      rw [nI_clamp (show 3 - k < 2 ^ 31 by omega), b1.1] at hx2
      subst hx2
      rw [nI_add (3 - k) 1, nI_clamp (show 3 - k + 1 < 2 ^ 31 by omega)]
      refine ⟨fun n z2 x => ∃ j, x = nI j ∧ A (3 - k) ≤ j ∧ j ≤ A (3 - k + 1) ∧ n = A (3 - k + 1) - j ∧ MF z z2 ∧ RB z2 (fun n => P n ∨ ∃ i, A (3 - k) ≤ i ∧ i < j ∧ RS E ct c r sp k (cm ||| sf z 69 i) n), ⟨_, A (3 - k), rfl, Nat.le_refl _, a1, rfl, MF.rf z, hB.iff (fun n => ⟨fun h => Or.inl h, fun h => ?_⟩)⟩, ?_⟩
      · rcases h with h | ⟨i, h1, h2, -⟩
        · exact h
        · omega
      · rintro n z2 x ⟨j, rfl, hj1, hj2, rfl, hF, hB2⟩
        have hA2 := hA.m hF
        rw [(hA2.1 (3 - k + 1) (by omega)).1]
        refine ⟨vp_inN (by omega) (by omega), fun hge => ?_, fun hlt => ?_⟩
        · have hjj := nle_of (by omega) hj2 hge
          subst hjj
          refine hp z2 hF (hB2.iff (fun n => ?_))
          constructor
          · rintro (h | ⟨i, h1, h2, h3⟩)
            · exact Or.inl h
            · obtain ⟨v, w1, w2⟩ := a2 i h1 h2
              rw [w2] at h3
              exact Or.inr ⟨v, w1, h3⟩
          · rintro (h | ⟨v, w1, h3⟩)
            · exact Or.inl h
            · obtain ⟨i, h1, h2, w2⟩ := a3 v w1
              rw [← w2] at h3
              exact Or.inr ⟨i, h1, h2, h3⟩
        · have hj3 := nlt_of (by omega) hj2 hlt
          rw [nI_clamp (show j < 2 ^ 31 by omega), hF.2.2 69 j (by omega)]
          refine ⟨vp_inN (by omega) (by omega), ?_⟩
          rw [show 3 - k + 1 = 4 - k by omega]
          refine ih m _ z2 _ _ (by omega) (by omega) ((hF.1 _).trans en) (hR.l hF.l) hA2 hB2 (fun z3 hF3 hB3 => ?_)
          refine ⟨A (3 - k + 1) - (j + 1), by rw [show 4 - k = 3 - k + 1 by omega]; omega, j + 1, by rw [nI_add], by omega, by rw [show 4 - k = 3 - k + 1 by omega]; omega, by rw [show 4 - k = 3 - k + 1 by omega], hF.tr hF3, hB3.iff (fun n => ?_)⟩
          constructor
          · rintro ((h | ⟨i, h1, h2, h3⟩) | h)
            · exact Or.inl h
            · exact Or.inr ⟨i, h1, by omega, h3⟩
            · exact Or.inr ⟨j, hj1, by omega, h⟩
          · rintro (h | ⟨i, h1, h2, h3⟩)
            · exact Or.inl (Or.inl h)
            · by_cases e : i = j
              · subst e; exact Or.inr h3
              · exact Or.inl (Or.inr ⟨i, h1, by omega, h3⟩)
