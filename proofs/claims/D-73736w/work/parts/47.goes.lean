/-! Plain laws: down a tree -/
set_option maxRecDepth 100000
/-- a node: its class (none: a choice), its condition, where it leads, its chapter -/
abbrev Nd : Type := Int32 × Nat × Nat × Nat × Nat
/-- what the object at r must be, if it stands for the node n -/
def NS (y : HS) (D : LM) (ns : List Nd) (CR NR : Nat → Nat → Nat → Prop) (d r n : Nat) : Prop :=
  (∃ (x : Nd) (mt : Bool), ns[n]? = some x ∧ ¬ x.1 < 0 ∧ y.1 r = some (ob 11 [.int x.1, .int (bi mt)])) ∨
  (∃ (d' : Nat) (x : Nd) (cr arr r1 r2 : Nat) (g : Nat → Option Nat), d = d' + 1 ∧ ns[n]? = some x ∧ x.1 < 0 ∧ y.1 r = some (ob 14 [va_rf (some cr), va_rf (some arr)]) ∧ FX y D arr 2 g ∧ g 0 = some r1 ∧ g 1 = some r2 ∧ CR 40 cr x.2.1 ∧ NR d' r1 x.2.2.1 ∧ NR d' r2 x.2.2.2.1)
/-- the way down: the leaf, the answers -/
def gn (F : Cn → Bool) (ns : List Nd) (cs : List Cn) : Nat → Nat → Nat × List Bool
  | 0, n => (n, [])
  | f + 1, n => match ns[n]? with
    | none => (n, [])
    | some x => if x.1 < 0 then ((gn F ns cs f (if vl F cs x.2.1 then x.2.2.1 else x.2.2.2.1)).1, vl F cs x.2.1 :: (gn F ns cs f (if vl F cs x.2.1 then x.2.2.1 else x.2.2.2.1)).2) else (n, [])
/-- the answers as bits, the last first -/
def wvR : List Bool → Int64
  | [] => 0
  | b :: t => wvR t ||| (if b then (1 : Int64) <<< ((nI t.length).toInt64 &&& 63) else 0)
def wv (bs : List Bool) : Int64 := wvR bs.reverse
theorem wv_snoc (bs : List Bool) (b : Bool) : wv (bs ++ [b]) = wv bs ||| (if b then (1 : Int64) <<< ((nI bs.length).toInt64 &&& 63) else 0) := by
  unfold wv
  rw [List.reverse_append]
  show wvR (b :: bs.reverse) = _
  rw [wvR, List.length_reverse]
/-- only the object at a is another -/
def SU (y y' : HS) (a : Nat) : Prop := (∀ b, b ≠ a → y'.1 b = y.1 b) ∧ y'.2 = y.2
theorem SU.rf (y : HS) (a : Nat) : SU y y a := ⟨fun _ _ => rfl, rfl⟩
theorem SU.tr {y1 y2 y3 : HS} {a : Nat} (h : SU y1 y2 a) (k : SU y2 y3 a) : SU y1 y3 a := ⟨fun b hb => (k.1 b hb).trans (h.1 b hb), k.2.trans h.2⟩
theorem SU.put {y : HS} {a : Nat} {e : HE} : SU y (hput y a e) a := ⟨fun _ hb => hput_ne hb, rfl⟩
theorem SU.kb {y y' : HS} {a : Nat} {e0 : HE} (h : SU y y' a) (h0 : y.1 a = some e0) (hv : isV e0 = true) : Kb y y' := fun b e hb he => by
  have : b ≠ a := fun hh => by
    subst hh
    rw [h0] at hb
    cases Option.some.inj hb
    rw [hv] at he; cases he
  rw [h.1 b this]; exact hb
theorem SU.kc {y y' : HS} {a c c2 : Nat} {fs : List Value} (h : SU y y' a) (h0 : y.1 a = some (ob c fs)) (hc : c2 ≠ c) : Kc y y' c2 := fun b gs hb => by
  rw [h.1 b (fun e => by subst e; rw [h0] at hb; exact hc (ob_inj.mp (Option.some.inj hb)).1.symm)]
  exact hb
theorem SU.arr {y y' : HS} {a c b t n : Nat} {fs : List Value} {g : Nat → Int32} (h : SU y y' a) (h0 : y.1 a = some (ob c fs)) (hb : y.1 b = some (ai t n g)) : y'.1 b = some (ai t n g) := by
  rw [h.1 b (fun e => by subst e; rw [h0] at hb; exact ob_ne_ai (Option.some.inj hb))]
  exact hb
theorem SU.ls {y y' : HS} {a c : Nat} {fs : List Value} (h : SU y y' a) (h0 : y.1 a = some (ob c fs)) (hc : c ≠ 18) : ∀ b e, y.1 b = some e → isLs e = true → y'.1 b = some e := fun b e hb he => by
  have : b ≠ a := fun hh => by
    subst hh
    rw [h0] at hb
    cases Option.some.inj hb
    simp [isLs, ob, hc] at he
  rw [h.1 b this]; exact hb
theorem SU.v {G : GP} {y y' : HS} {D : LM} {a c : Nat} {fs fs' : List Value} (h : SU y y' a) (hv : V G y D) (h0 : y.1 a = some (ob c fs)) (h1 : y'.1 a = some (ob c fs')) (hc : c ≠ 18) : V G y' D := by
  refine hv.step ⟨fun b e hb => ?_, hv.1.2.1, by rw [h.2]; exact hv.1.2.2⟩ (h.ls h0 hc) (fun v c' gs hg => ?_)
  · by_cases hba : b = a
    · subst hba; rw [h.2]; exact hv.1.1 _ _ h0
    · rw [h.1 b hba] at hb; rw [h.2]; exact hv.1.1 _ _ hb
  · by_cases hva : v = a
    · subst hva
      rw [h0] at hg
      obtain ⟨rfl, rfl⟩ := ob_inj.mp (Option.some.inj hg)
      exact ⟨_, h1⟩
    · exact ⟨gs, by rw [h.1 v hva]; exact hg⟩
theorem SU.kf {G : GP} {y y' : HS} {D : LM} {a c : Nat} {fs : List Value} (h : SU y y' a) (hv : V G y D) (h0 : y.1 a = some (ob c fs)) (hc : c ≠ 18) : KF y D y' D := KF.step (h.ls h0 hc) (fun _ _ hd => hv.cell hd)
theorem NS.kb {y y' : HS} {D D' : LM} {ns : List Nd} {CR NR : Nat → Nat → Nat → Prop} {d r n : Nat} (h : NS y D ns CR NR d r n) (k : Kb y y') (kf : KF y D y' D') : NS y' D' ns CR NR d r n := by
  rcases h with ⟨x, mt, h1, h2, h3⟩ | ⟨d', x, cr, arr, r1, r2, g, h0, h1, h2, h3, h4, h5⟩
  · exact Or.inl ⟨x, mt, h1, h2, k _ _ h3 rfl⟩
  · exact Or.inr ⟨d', x, cr, arr, r1, r2, g, h0, h1, h2, k _ _ h3 rfl, kf _ _ _ h4, h5⟩
theorem sp_answers {G : GP} {y : HS} {a : Nat} {v0 v1 v2 v3 v4 v5 : Value} {j : Int32} {wy : Int64} {b : Bool} {post : HS → Prop} (hs : y.1 a = some (ob 2 [v0, v1, v2, v3, v4, v5, .int j, .long wy])) (hp : ∀ y', SU y y' a → y'.1 a = some (ob 2 [v0, v1, v2, v3, v4, v5, .int (j + nI 1), .long (wy ||| (if b then (1 : Int64) <<< (j.toInt64 &&& 63) else 0))]) → post y') : wp_X4_answers G post y a b := by
  refine ⟨fun y3 w4 w5 r6 => y3 = y ∧ w4 = (if b then (1 : Int64) <<< (j.toInt64 &&& 63) else 0) ∧ w5 = wy ∧ r6 = some a, ?_, wy, ⟨_, hs, rfl⟩, fun hb => ⟨rfl, by rw [hb]; rfl, rfl, rfl⟩, fun hb => ⟨j, ⟨_, hs, rfl⟩, rfl, by rw [hb]; rfl, rfl, rfl⟩⟩
  rintro y3 w4 w5 r6 ⟨rfl, rfl, rfl, rfl⟩
  refine ⟨a, rfl, _, hs, by simp, fun y8 hy8 => ?_⟩
  have h8 : y8.1 a = some (ob 2 [v0, v1, v2, v3, v4, v5, .int j, .long (w5 ||| (if b then (1 : Int64) <<< (j.toInt64 &&& 63) else 0))]) := by rw [hy8, hput_at]; rfl
  refine ⟨j, ⟨_, h8, rfl⟩, _, h8, by simp, fun y11 hy11 => hp y11 ?_ ?_⟩
  · rw [hy11]; exact SU.tr (by rw [hy8]; exact SU.put) SU.put
  · rw [hy11, hput_at]; rfl
