/-! The model's parser: the draft and what lies around it; chapters, ranks, partners -/
set_option maxRecDepth 100000
/-- rows of side d that edition E uses -/
def usd (d : Nat) (E : Ed) (a j : Nat) : Prop := (a = 3 ∧ 7 * d ≤ j ∧ j ≤ 7 * d + 5) ∨ ((a = 4 ∨ a = 5 ∨ a = 8) ∧ 6 * d ≤ j ∧ j < 6 * d + (eCh E).length) ∨ ((a = 6 ∨ a = 7) ∧ 3 * (6 * d) ≤ j ∧ j < 3 * (6 * d + (eCh E).length)) ∨
  ((a = 9 ∨ a = 10 ∨ a = 11) ∧ 10 * d ≤ j ∧ j < 10 * d + (eRk E).length) ∨ ((a = 12 ∨ a = 13 ∨ a = 14 ∨ a = 15) ∧ 10 * d ≤ j ∧ j < 10 * d + (ePt E).length) ∨ ((a = 16 ∨ a = 17) ∧ 3 * (10 * d) ≤ j ∧ j < 3 * (10 * d + (ePt E).length)) ∨
  ((a = 18 ∨ a = 19) ∧ 16 * d ≤ j ∧ j < 16 * d + (eCl E).length) ∨ (20 ≤ a ∧ a ≤ 24 ∧ 40 * d ≤ j ∧ j < 40 * d + (eNd E).length) ∨ (25 ≤ a ∧ a ≤ 28 ∧ 400 * d ≤ j ∧ j < 400 * d + (eCn E).length)
theorem RepT.kp {σ σ' : TS} {d : Nat} {E : Ed} (h : RepT σ d E) (h1 : ∀ a j, usd d E a j → sf σ' a j = sf σ a j) (h2 : ∀ a j, usd d E a j → sg σ' a j = sg σ a j) : RepT σ' d E := by
  obtain ⟨hd, ⟨a1, a2, a3⟩, ⟨b1, b2, b3⟩, ⟨c1, c2, c3⟩, ⟨d1, d2, d3⟩, ⟨e1, e2, e3⟩, f1, f2, f3⟩ := h
  refine ⟨hd, ⟨?_, a2, fun k hk => ?_⟩, ⟨?_, b2, fun k hk => ?_⟩, ⟨?_, c2, fun k hk => ?_⟩, ⟨?_, d2, fun k hk => ?_⟩, ⟨?_, e2, fun k hk => ?_⟩, ?_, f2, fun k hk => ?_⟩
  · rw [h1 3 _ (by unfold usd; omega)]; exact a1
  · obtain ⟨q1, q2, q3, q4, q5⟩ := a3 k hk
    refine ⟨?_, ?_, q3, fun j hj => ⟨?_, ?_⟩, ?_⟩
    · rw [h2 4 _ (by unfold usd; omega)]; exact q1
    · rw [h1 5 _ (by unfold usd; omega)]; exact q2
    · rw [h1 6 _ (by unfold usd; omega)]; exact (q4 j hj).1
    · rw [h1 7 _ (by unfold usd; omega)]; exact (q4 j hj).2
    · rw [h1 8 _ (by unfold usd; omega)]; exact q5
  · rw [h1 3 _ (by unfold usd; omega)]; exact b1
  · obtain ⟨q1, q2, q3⟩ := b3 k hk
    refine ⟨?_, ?_, ?_⟩
    · rw [h1 9 _ (by unfold usd; omega)]; exact q1
    · rw [h1 10 _ (by unfold usd; omega)]; exact q2
    · rw [h1 11 _ (by unfold usd; omega)]; exact q3
  · rw [h1 3 _ (by unfold usd; omega)]; exact c1
  · obtain ⟨q1, q2, q3, q4, q5, q6⟩ := c3 k hk
    refine ⟨?_, ?_, ?_, ?_, q5, fun j hj => ⟨?_, ?_⟩⟩
    · rw [h1 12 _ (by unfold usd; omega)]; exact q1
    · rw [h1 13 _ (by unfold usd; omega)]; exact q2
    · rw [h1 14 _ (by unfold usd; omega)]; exact q3
    · rw [h1 15 _ (by unfold usd; omega)]; exact q4
    · rw [h1 16 _ (by unfold usd; omega)]; exact (q6 j hj).1
    · rw [h1 17 _ (by unfold usd; omega)]; exact (q6 j hj).2
  · rw [h1 3 _ (by unfold usd; omega)]; exact d1
  · obtain ⟨q1, q2⟩ := d3 k hk
    refine ⟨?_, ?_⟩
    · rw [h2 18 _ (by unfold usd; omega)]; exact q1
    · rw [h1 19 _ (by unfold usd; omega)]; exact q2
  · rw [h1 3 _ (by unfold usd; omega)]; exact e1
  · obtain ⟨q1, q2, q3⟩ := e3 k hk
    refine ⟨?_, ?_, fun z => ⟨?_, ?_, ?_⟩⟩
    · rw [h1 20 _ (by unfold usd; omega)]; exact q1
    · rw [h1 24 _ (by unfold usd; omega)]; exact q2
    · rw [h1 21 _ (by unfold usd; omega)]; exact (q3 z).1
    · rw [h1 22 _ (by unfold usd; omega)]; exact (q3 z).2.1
    · rw [h1 23 _ (by unfold usd; omega)]; exact (q3 z).2.2
  · rw [h1 3 _ (by unfold usd; omega)]; exact f1
  · obtain ⟨q1, q2, q3, q4⟩ := f3 k hk
    refine ⟨?_, ?_, ?_, fun z => ?_⟩
    · rw [h1 25 _ (by unfold usd; omega)]; exact q1
    · rw [h1 26 _ (by unfold usd; omega)]; exact q2
    · rw [h1 27 _ (by unfold usd; omega)]; exact q3
    · rw [h1 28 _ (by unfold usd; omega)]; exact q4 z
theorem RepT.nf {σ σ' : TS} {d : Nat} {E : Ed} (h : RepT σ d E) (n : NF σ σ') : RepT σ' d E := h.kp (fun a j _ => n.2.2 a j) (fun a j _ => n.2.1 a j)
theorem RepT.puf {σ : TS} {d k i : Nat} {v : Int32} {E : Ed} (h : RepT σ d E) (hf : ¬ usd d E k i) : RepT (uf σ k i v) d E := h.kp (fun a j u => by rw [sf_uf, if_neg (by rintro ⟨rfl, rfl⟩; exact hf u)]) (fun a j _ => rfl)
theorem RepT.pug {σ : TS} {d k i : Nat} {v : Int64} {E : Ed} (h : RepT σ d E) (hf : ¬ usd d E k i) : RepT (ug σ k i v) d E := h.kp (fun a j _ => rfl) (fun a j u => by rw [sg_ug, if_neg (by rintro ⟨rfl, rfl⟩; exact hf u)])
theorem RepT.pux {σ : TS} {d k : Nat} {v : Int32} {E : Ed} (h : RepT σ d E) : RepT (ux σ k v) d E := h.kp (fun a j _ => rfl) (fun a j _ => rfl)
