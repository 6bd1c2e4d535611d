/-! What is kept when only passing objects are written (0 CaseGrouper 1 Edition 2 Seen 4 Reader 16 Tried 17 Stay 19 StringBuilder, lists) -/
set_option maxRecDepth 100000
/-- objects that are written after they are made, lists and their arrays -/
def isV (e : HE) : Bool := match e with
  | .inl o => o.1 == 0 || o.1 == 1 || o.1 == 2 || o.1 == 4 || o.1 == 16 || o.1 == 17 || o.1 == 18 || o.1 == 19
  | .inr x => x.1 == 6 || (x.1 == 3 && x.2.1 == 936)
/-- cells of a class are kept -/
def Kc (y y' : HS) (c : Nat) : Prop := ∀ b fs, y.1 b = some (ob c fs) → y'.1 b = some (ob c fs)
/-- all the rest is kept -/
def Kb (y y' : HS) : Prop := ∀ b e, y.1 b = some e → isV e = false → y'.1 b = some e
theorem Kb.rf (y : HS) : Kb y y := fun _ _ h _ => h
theorem Kb.tr {y1 y2 y3 : HS} (h : Kb y1 y2) (k : Kb y2 y3) : Kb y1 y3 := fun b e hb he => k b e (h b e hb he) he
theorem isLs_of_isV {e : HE} (h : isV e = false) : isLs e = false := by
  cases e with
  | inl o =>
    have : ¬ o.1 = 18 := fun z => by simp [isV, z] at h
    simp [isLs, this]
  | inr x => exact (Bool.or_eq_false_iff.mp h).1
theorem Kp.kb {y y' : HS} (h : Kp y y') : Kb y y' := fun b e hb he => h b e hb (isLs_of_isV he)
theorem Kb.put {y : HS} {a : Nat} {e0 e : HE} (h : y.1 a = some e0) (hv : isV e0 = true) : Kb y (hput y a e) := fun b e' hb he => by
  by_cases hba : b = a
  · subst hba
    rw [h] at hb
    cases Option.some.inj hb
    rw [hv] at he; cases he
  · rw [hput_ne hba]; exact hb
theorem Kb.new {G : GP} {y : HS} {e : HE} (hw : WF G y) : Kb y (hnew y e) := fun b e' hb _ => by rw [hnew_ne (Nat.ne_of_lt (hw.lt hb))]; exact hb
theorem rd.kb {G : GP} {y y' : HS} {a : Nat} {e : HE} (he : isV e = false) (h : rd G y a e) (k : Kb y y') : rd G y' a e := by
  rcases h with h | h
  · exact Or.inl (k _ _ h he)
  · exact Or.inr h
theorem bx.kb {G : GP} {y y' : HS} {r : Option Nat} {v : Int32} (h : bx G y r v) (k : Kb y y') : bx G y' r v := by
  obtain ⟨q, h1, h2⟩ := h
  exact ⟨q, h1, h2.kb rfl k⟩
theorem BX.kb {G : GP} {y y' : HS} {xs : List (Option Nat)} {vs : List Int32} (h : BX G y xs vs) (k : Kb y y') : BX G y' xs vs := All2.imp h (fun _ _ hb => hb.kb k)
theorem stR.kb {G : GP} {y y' : HS} {D D' : LM} {q l1 l2 : Nat} {s : St} (h : stR G y D q l1 l2 s) (hk : Kb y y') (hc : Kc y y' 17) (h1 : D' l1 = D l1) (h2 : D' l2 = D l2) : stR G y' D' q l1 l2 s := by
  obtain ⟨h0, ⟨xs1, a1, a2⟩, ⟨xs2, b1, b2⟩, h4, h5, h6⟩ := h
  exact ⟨hc _ _ h0, ⟨xs1, by rw [h1]; exact a1, a2.kb hk⟩, ⟨xs2, by rw [h2]; exact b1, b2.kb hk⟩, h4, h5, h6⟩
theorem spR.kb {y y' : HS} {r : Option Nat} {sp : Sp} (h : spR y r sp) (k : Kb y y') : spR y' r sp := by
  obtain ⟨q, h1, h2⟩ := h
  exact ⟨q, h1, k _ _ h2 rfl⟩
theorem spsR.kb {y y' : HS} {D D' : LM} {l : Nat} {sps : List Sp} (h : spsR y D l sps) (k : Kb y y') (hd : D' l = D l) : spsR y' D' l sps := by
  obtain ⟨xs, h1, h2⟩ := h
  exact ⟨xs, by rw [hd]; exact h1, All2.imp h2 (fun _ _ z => z.kb k)⟩
theorem rkR.kb {y y' : HS} {r : Option Nat} {x : Rk} (h : rkR y r x) (k : Kb y y') : rkR y' r x := by
  obtain ⟨q, s, h1, h2, h3⟩ := h
  exact ⟨q, s, h1, k _ _ h2 rfl, h3.kb k⟩
theorem byR.kb {G : GP} {y y' : HS} {r : Option Nat} {bs : List Nat} (h : byR G y r bs) (k : Kb y y') : byR G y' r bs := by
  obtain ⟨q, g, h1, h2, h3⟩ := h
  exact ⟨q, g, h1, h2.kb (by
    have h4 : ¬ bs.length = 936 := by have := h3.1; omega
    simp [isV, ai, h4]) k, h3⟩
theorem srR.kb {G : GP} {y y' : HS} {q : Nat} {bs : List Nat} {h : Int32} (hs : srR G y q bs h) (k : Kb y y') : srR G y' q bs h := by
  obtain ⟨b, h1, h2⟩ := hs
  exact ⟨b, h1.kb rfl k, h2.kb k⟩
theorem atR.kb {G : GP} {y y' : HS} {q : Nat} {x : Cn} (h : atR G y q x) (k : Kb y y') : atR G y' q x := by
  obtain ⟨w, sp, sg, nb, h1, h2, h3, h4, h5, h6, h7⟩ := h
  exact ⟨w, sp, sg, nb, k _ _ h1 rfl, h2.kb k, h3, h4, h5, fun z => (h6 z).kb k, h7⟩
theorem CS.kb {G : GP} {y y' : HS} {D D' : LM} {cs : List Cn} {CR : Nat → Nat → Nat → Prop} {d r i : Nat} (h : CS G y D cs CR d r i) (k : Kb y y') (hd : ∀ l, (∃ w, y.1 r = some (ob 12 [w, va_rf (some l)])) → D' l = D l) : CS G y' D' cs CR d r i := by
  rcases h with ⟨x, h1, h2⟩ | ⟨d', l, p, x, h0, h1, h2, h3⟩ | ⟨d', l, w, ps, p0, rest, h0, hw, h1, h2, h3⟩
  · exact Or.inl ⟨x, h1, h2.kb k⟩
  · exact Or.inr (Or.inl ⟨d', l, p, x, h0, k _ _ h1 rfl, by rw [hd l ⟨_, h1⟩]; exact h2, h3⟩)
  · exact Or.inr (Or.inr ⟨d', l, w, ps, p0, rest, h0, hw, k _ _ h1 rfl, by rw [hd l ⟨_, h1⟩]; exact h2, h3⟩)
