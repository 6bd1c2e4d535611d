/-! The constants' addresses -/
set_option maxRecDepth 100000
theorem whT_inj2 : ∀ i, i < 20 → ∀ j, j < 20 → whT.getD i 0 = whT.getD j 0 → i = j := by decide +kernel
theorem wd_128b : ∀ i, i < 20 → ∀ b ∈ wd i, b < 128 := by decide +kernel
theorem GK.of {G : GP} (h : GC G) : GK G := by
  obtain ⟨h1, -, -, -⟩ := h
  refine ⟨fun i hi => ?_, fun i j hi hj he => ?_, fun i hi => ?_, fun i j hi hj he => ?_⟩
  · obtain ⟨⟨cell, c1, -⟩, -⟩ := h1 i hi
    exact (Array.getElem?_eq_some_iff.mp c1).1
  · obtain ⟨⟨cell, c1, -, -, -, c5⟩, -⟩ := h1 i hi
    obtain ⟨⟨cell', d1, -, -, -, d5⟩, -⟩ := h1 j hj
    rw [← he, c1] at d1
    cases d1
    have e1 := c5 2 _ rfl
    have e2 := d5 2 _ rfl
    rw [e1] at e2
    have e3 := Option.some.inj e2
    injection e3 with e3
    exact whT_inj2 i hi j hj e3
  · obtain ⟨-, cell, c1, -⟩ := h1 i hi
    exact (Array.getElem?_eq_some_iff.mp c1).1
  · obtain ⟨-, cell, c1, -, -, -, c5, c6⟩ := h1 i hi
    obtain ⟨-, cell', d1, -, -, -, d5, d6⟩ := h1 j hj
    rw [← he, c1] at d1
    cases d1
    have hl : (wd i).length = (wd j).length := c5.symm.trans d5
    refine List.ext_getElem hl (fun k k1 k2 => ?_)
    have e1 := c6 k k1
    have e2 := d6 k k2
    rw [e1] at e2
    have e3 := Option.some.inj e2
    injection e3 with e3
    have b1 := wd_128b i hi _ (List.getElem_mem k1)
    have b2 := wd_128b j hj _ (List.getElem_mem k2)
    rw [List.getD_eq_getElem?_getD, List.getD_eq_getElem?_getD, List.getElem?_eq_getElem k1, List.getElem?_eq_getElem k2] at e3
    exact (nI_byte b1 b2).mp e3
