/-! The model: an edition is copied from side to side (printed by tools/mk_copy.py) -/
set_option maxRecDepth 100000
def Cp (σ z : TS) (a b : Nat) (lim : Nat → Nat) : Prop := (∀ k, sx z k = sx σ k) ∧ (∀ x j, sf z x j = if (3 ≤ x ∧ x ≤ 28 ∧ x ≠ 4 ∧ x ≠ 18) ∧ j / Wd x = b ∧ j % Wd x < lim x then sf σ x (Wd x * a + j % Wd x) else sf σ x j) ∧ (∀ x j, sg z x j = if (x = 4 ∨ x = 18) ∧ j / Wd x = b ∧ j % Wd x < lim x then sg σ x (Wd x * a + j % Wd x) else sg σ x j)
theorem Wd_div {W k b : Nat} (h : k < W) : (W * b + k) / W = b ∧ (W * b + k) % W = k := by
  have hW : 0 < W := by omega
  exact ⟨by rw [Nat.mul_add_div hW, Nat.div_eq_of_lt h, Nat.add_zero], by rw [Nat.mul_add_mod, Nat.mod_eq_of_lt h]⟩
theorem Wd_eq {W j b k : Nat} (h1 : j / W = b) (h2 : j % W = k) : j = W * b + k := by
  rw [← h1, ← h2]
  exact (Nat.div_add_mod j W).symm
def lu (lim : Nat → Nat) (x v y : Nat) : Nat := if y = x then v else lim y
theorem lu_at {lim : Nat → Nat} {x v : Nat} : lu lim x v x = v := if_pos rfl
theorem lu_ne {lim : Nat → Nat} {x v y : Nat} (h : y ≠ x) : lu lim x v y = lim y := if_neg h
theorem Cp.f {σ z : TS} {a b : Nat} {lim : Nat → Nat} (h : Cp σ z a b lim) (hab : a ≠ b) (x W k : Nat) (hW : Wd x = W) (hx : 3 ≤ x ∧ x ≤ 28 ∧ x ≠ 4 ∧ x ≠ 18) (hk : lim x = k) (hw : k < W) : Cp σ (uf z x (W * b + k) (sf z x (W * a + k))) a b (lu lim x (k + 1)) := by
  subst hW
  have d1 := Wd_div (b := b) hw
  have d2 := Wd_div (b := a) hw
  refine ⟨fun i => h.1 i, fun y j => ?_, fun y j => ?_⟩
  · rw [sf_uf]
    by_cases e : y = x ∧ j = Wd x * b + k
    · obtain ⟨rfl, rfl⟩ := e
      rw [if_pos ⟨rfl, rfl⟩, h.2.1 y (Wd y * a + k), if_neg (fun z => hab (d2.1.symm.trans z.2.1)), if_pos ⟨hx, d1.1, by rw [d1.2, lu_at]; omega⟩, d1.2]
    · rw [if_neg e, h.2.1]
      by_cases ey : y = x
      · subst ey
        rw [lu_at, hk]
        by_cases c : j / Wd y = b ∧ j % Wd y < k
        · rw [if_pos ⟨hx, c.1, c.2⟩, if_pos ⟨hx, c.1, by omega⟩]
        · rw [if_neg (fun z => c z.2), if_neg (fun z => ?_)]
          obtain ⟨-, z1, z2⟩ := z
          have : j % Wd y = k := by
            rcases Nat.lt_or_ge (j % Wd y) k with z3 | z3
            · exact absurd ⟨z1, z3⟩ c
            · omega
          exact e ⟨rfl, Wd_eq z1 this⟩
      · rw [lu_ne ey]
  · rw [sg_uf, h.2.2]
    by_cases ey : y = x
    · subst ey
      rw [if_neg (fun z => by rcases z.1 with z | z <;> omega), if_neg (fun z => by rcases z.1 with z | z <;> omega)]
    · rw [lu_ne ey]
theorem Cp.g {σ z : TS} {a b : Nat} {lim : Nat → Nat} (h : Cp σ z a b lim) (hab : a ≠ b) (x W k : Nat) (hW : Wd x = W) (hx : x = 4 ∨ x = 18) (hk : lim x = k) (hw : k < W) : Cp σ (ug z x (W * b + k) (sg z x (W * a + k))) a b (lu lim x (k + 1)) := by
  subst hW
  have d1 := Wd_div (b := b) hw
  have d2 := Wd_div (b := a) hw
  refine ⟨fun i => h.1 i, fun y j => ?_, fun y j => ?_⟩
  · rw [sf_ug, h.2.1]
    by_cases ey : y = x
    · subst ey
      rw [if_neg (fun z => by have := z.1; omega), if_neg (fun z => by have := z.1; omega)]
    · rw [lu_ne ey]
  · rw [sg_ug]
    by_cases e : y = x ∧ j = Wd x * b + k
    · obtain ⟨rfl, rfl⟩ := e
      rw [if_pos ⟨rfl, rfl⟩, h.2.2 y (Wd y * a + k), if_neg (fun z => hab (d2.1.symm.trans z.2.1)), if_pos ⟨hx, d1.1, by rw [d1.2, lu_at]; omega⟩, d1.2]
    · rw [if_neg e, h.2.2]
      by_cases ey : y = x
      · subst ey
        rw [lu_at, hk]
        by_cases c : j / Wd y = b ∧ j % Wd y < k
        · rw [if_pos ⟨hx, c.1, c.2⟩, if_pos ⟨hx, c.1, by omega⟩]
        · rw [if_neg (fun z => c z.2), if_neg (fun z => ?_)]
          obtain ⟨-, z1, z2⟩ := z
          have : j % Wd y = k := by
            rcases Nat.lt_or_ge (j % Wd y) k with z3 | z3
            · exact absurd ⟨z1, z3⟩ c
            · omega
          exact e ⟨rfl, Wd_eq z1 this⟩
      · rw [lu_ne ey]
/-- the loops, which row is copied in which -/
def gp (a : Nat) : Nat := if a = 3 then 0 else if a ≤ 5 ∨ a = 8 then 1 else if a ≤ 7 then 2 else if a ≤ 15 then 3 else if a ≤ 17 then 4 else if a ≤ 19 then 5 else if a ≤ 24 then 6 else 7
def lm (s k y : Nat) : Nat := if gp y < s then Wd y else if gp y = s then k else 0
def Ls (s k : Nat) (lim : Nat → Nat) : Prop := ∀ y, y < 29 → 3 ≤ y → lim y = lm s k y
theorem Ls.step {s k : Nat} {lim lim' : Nat → Nat} (h : Ls s k lim) (h1 : ∀ y, y < 29 → 3 ≤ y → gp y = s → lim' y = k + 1) (h2 : ∀ y, y < 29 → 3 ≤ y → gp y ≠ s → lim' y = lim y) : Ls s (k + 1) lim' := by
  intro y hy hy3
  by_cases e : gp y = s
  · rw [h1 y hy hy3 e, lm, if_neg (by omega), if_pos e]
  · rw [h2 y hy hy3 e, h y hy hy3, lm, lm, if_neg e, if_neg e]
theorem Ls.next {s W : Nat} {lim : Nat → Nat} (h : Ls s W lim) (hW : ∀ y, y < 29 → 3 ≤ y → gp y = s → Wd y = W) : Ls (s + 1) 0 lim := by
  intro y hy hy3
  rw [h y hy hy3, lm, lm]
  by_cases e : gp y < s
  · rw [if_pos e, if_pos (by omega)]
  · rw [if_neg e]
    by_cases e2 : gp y = s
    · rw [if_pos e2, if_pos (by omega), hW y hy hy3 e2]
    · rw [if_neg e2, if_neg (by omega), ite_self]
theorem gp_0 : ∀ y, y < 29 → 3 ≤ y → gp y = 0 → y = 3 := by decide
theorem gpW_0 : ∀ y, y < 29 → 3 ≤ y → gp y = 0 → Wd y = 7 := by decide
theorem gp_1 : ∀ y, y < 29 → 3 ≤ y → gp y = 1 → y = 4 ∨ y = 5 ∨ y = 8 := by decide
theorem gpW_1 : ∀ y, y < 29 → 3 ≤ y → gp y = 1 → Wd y = 6 := by decide
theorem gp_2 : ∀ y, y < 29 → 3 ≤ y → gp y = 2 → y = 6 ∨ y = 7 := by decide
theorem gpW_2 : ∀ y, y < 29 → 3 ≤ y → gp y = 2 → Wd y = 18 := by decide
theorem gp_3 : ∀ y, y < 29 → 3 ≤ y → gp y = 3 → y = 9 ∨ y = 10 ∨ y = 11 ∨ y = 12 ∨ y = 13 ∨ y = 14 ∨ y = 15 := by decide
theorem gpW_3 : ∀ y, y < 29 → 3 ≤ y → gp y = 3 → Wd y = 10 := by decide
theorem gp_4 : ∀ y, y < 29 → 3 ≤ y → gp y = 4 → y = 16 ∨ y = 17 := by decide
theorem gpW_4 : ∀ y, y < 29 → 3 ≤ y → gp y = 4 → Wd y = 30 := by decide
theorem gp_5 : ∀ y, y < 29 → 3 ≤ y → gp y = 5 → y = 18 ∨ y = 19 := by decide
theorem gpW_5 : ∀ y, y < 29 → 3 ≤ y → gp y = 5 → Wd y = 16 := by decide
theorem gp_6 : ∀ y, y < 29 → 3 ≤ y → gp y = 6 → y = 20 ∨ y = 21 ∨ y = 22 ∨ y = 23 ∨ y = 24 := by decide
theorem gpW_6 : ∀ y, y < 29 → 3 ≤ y → gp y = 6 → Wd y = 40 := by decide
theorem gp_7 : ∀ y, y < 29 → 3 ≤ y → gp y = 7 → y = 25 ∨ y = 26 ∨ y = 27 ∨ y = 28 := by decide
theorem gpW_7 : ∀ y, y < 29 → 3 ≤ y → gp y = 7 → Wd y = 400 := by decide
theorem tsp_copies {σ : TS} {a b : Nat} {post : TS → Prop} (ha : a < 3) (hb : b < 3) (hab : a ≠ b) (hp : ∀ z lim, Cp σ z a b lim → (∀ y, y < 29 → 3 ≤ y → lim y = Wd y) → post z) : wp_copies post σ (nI a) (nI b) := by
  have h0 : Cp σ σ a b (fun _ => 0) := ⟨fun _ => rfl, fun x j => by rw [if_neg (fun z => Nat.not_lt_zero _ z.2.2)], fun x j => by rw [if_neg (fun z => Nat.not_lt_zero _ z.2.2)]⟩
  have l0 : Ls 0 0 (fun _ => 0) := fun y hy hy3 => by rw [lm, if_neg (by omega), ite_self]
  refine ⟨fun n z x => ∃ k lim, x = nI k ∧ k ≤ 7 ∧ n = 7 - k ∧ Cp σ z a b lim ∧ Ls 0 k lim, ⟨_, 0, _, rfl, Nat.zero_le _, rfl, h0, l0⟩, ?_⟩
  rintro n z x ⟨k, lim, rfl, hk, rfl, hC, hL⟩
  refine ⟨fun hge => ?_, fun hlt => ?_⟩
  · have hkk := nle_of (by omega) hk hge
    subst hkk
    have hL0 := hL.next gpW_0
    refine ⟨fun n z x => ∃ k lim, x = nI k ∧ k ≤ 6 ∧ n = 6 - k ∧ Cp σ z a b lim ∧ Ls 1 k lim, ⟨_, 0, _, rfl, Nat.zero_le _, rfl, hC, hL0⟩, ?_⟩
    rintro n z x ⟨k, lim, rfl, hk, rfl, hC, hL⟩
    refine ⟨fun hge => ?_, fun hlt => ?_⟩
    · have hkk := nle_of (by omega) hk hge
      subst hkk
      have hL1 := hL.next gpW_1
      refine ⟨fun n z x => ∃ k lim, x = nI k ∧ k ≤ 18 ∧ n = 18 - k ∧ Cp σ z a b lim ∧ Ls 2 k lim, ⟨_, 0, _, rfl, Nat.zero_le _, rfl, hC, hL1⟩, ?_⟩
      rintro n z x ⟨k, lim, rfl, hk, rfl, hC, hL⟩
      refine ⟨fun hge => ?_, fun hlt => ?_⟩
      · have hkk := nle_of (by omega) hk hge
        subst hkk
        have hL2 := hL.next gpW_2
        refine ⟨fun n z x => ∃ k lim, x = nI k ∧ k ≤ 10 ∧ n = 10 - k ∧ Cp σ z a b lim ∧ Ls 3 k lim, ⟨_, 0, _, rfl, Nat.zero_le _, rfl, hC, hL2⟩, ?_⟩
        rintro n z x ⟨k, lim, rfl, hk, rfl, hC, hL⟩
        refine ⟨fun hge => ?_, fun hlt => ?_⟩
        · have hkk := nle_of (by omega) hk hge
          subst hkk
          have hL3 := hL.next gpW_3
          refine ⟨fun n z x => ∃ k lim, x = nI k ∧ k ≤ 30 ∧ n = 30 - k ∧ Cp σ z a b lim ∧ Ls 4 k lim, ⟨_, 0, _, rfl, Nat.zero_le _, rfl, hC, hL3⟩, ?_⟩
          rintro n z x ⟨k, lim, rfl, hk, rfl, hC, hL⟩
          refine ⟨fun hge => ?_, fun hlt => ?_⟩
          · have hkk := nle_of (by omega) hk hge
            subst hkk
            have hL4 := hL.next gpW_4
            refine ⟨fun n z x => ∃ k lim, x = nI k ∧ k ≤ 16 ∧ n = 16 - k ∧ Cp σ z a b lim ∧ Ls 5 k lim, ⟨_, 0, _, rfl, Nat.zero_le _, rfl, hC, hL4⟩, ?_⟩
            rintro n z x ⟨k, lim, rfl, hk, rfl, hC, hL⟩
            refine ⟨fun hge => ?_, fun hlt => ?_⟩
            · have hkk := nle_of (by omega) hk hge
              subst hkk
              have hL5 := hL.next gpW_5
              refine ⟨fun n z x => ∃ k lim, x = nI k ∧ k ≤ 40 ∧ n = 40 - k ∧ Cp σ z a b lim ∧ Ls 6 k lim, ⟨_, 0, _, rfl, Nat.zero_le _, rfl, hC, hL5⟩, ?_⟩
              rintro n z x ⟨k, lim, rfl, hk, rfl, hC, hL⟩
              refine ⟨fun hge => ?_, fun hlt => ?_⟩
              · have hkk := nle_of (by omega) hk hge
                subst hkk
                have hL6 := hL.next gpW_6
                refine ⟨fun n z x => ∃ k lim, x = nI k ∧ k ≤ 400 ∧ n = 400 - k ∧ Cp σ z a b lim ∧ Ls 7 k lim, ⟨_, 0, _, rfl, Nat.zero_le _, rfl, hC, hL6⟩, ?_⟩
                rintro n z x ⟨k, lim, rfl, hk, rfl, hC, hL⟩
                refine ⟨fun hge => ?_, fun hlt => ?_⟩
                · have hkk := nle_of (by omega) hk hge
                  subst hkk
                  refine hp z lim hC (fun y hy hy3 => ?_)
                  have := (hL.next gpW_7) y hy hy3
                  rw [this, lm, if_pos (Nat.lt_succ_of_le ((by decide : ∀ y, y < 29 → gp y ≤ 7) y hy))]
                · have hk2 := nlt_of (by omega) hk hlt
                  rw [nI_mul 400 a, nI_mul 400 b, nI_add (400 * a) k, nI_add (400 * b) k, nI_clamp (show 400 * a + k < 2 ^ 31 by omega), nI_clamp (show 400 * b + k < 2 ^ 31 by omega)]
                  have hv : vp_in (nI (400 * a + k)) 1200 := vp_inN (by omega) (by omega)
                  have hv2 : vp_in (nI (400 * b + k)) 1200 := vp_inN (by omega) (by omega)
                  refine ⟨hv, hv2, fun z0 hz0 => ?_⟩
                  have c0 := Cp.f hC hab 25 400 k rfl ⟨by omega, by omega, by omega, by omega⟩ (by exact hL 25 (by omega) (by omega)) hk2
                  rw [← hz0] at c0
                  refine ⟨hv, hv2, fun z1 hz1 => ?_⟩
                  have c1 := Cp.f c0 hab 26 400 k rfl ⟨by omega, by omega, by omega, by omega⟩ (by rw [lu_ne (by omega)]; exact hL 26 (by omega) (by omega)) hk2
                  rw [← hz1] at c1
                  refine ⟨hv, hv2, fun z2 hz2 => ?_⟩
                  have c2 := Cp.f c1 hab 27 400 k rfl ⟨by omega, by omega, by omega, by omega⟩ (by rw [lu_ne (by omega), lu_ne (by omega)]; exact hL 27 (by omega) (by omega)) hk2
                  rw [← hz2] at c2
                  refine ⟨hv, hv2, fun z3 hz3 => ?_⟩
                  have c3 := Cp.f c2 hab 28 400 k rfl ⟨by omega, by omega, by omega, by omega⟩ (by rw [lu_ne (by omega), lu_ne (by omega), lu_ne (by omega)]; exact hL 28 (by omega) (by omega)) hk2
                  rw [← hz3] at c3
                  refine ⟨400 - (k + 1), by omega, k + 1, _, by rw [nI_add], by omega, rfl, c3, hL.step (fun y hy hy3 e => ?_) (fun y hy hy3 e => ?_)⟩
                  · rcases gp_7 y hy hy3 e with rfl | rfl | rfl | rfl <;> rfl
                  · rw [lu_ne (fun z => e (by rw [z]; rfl)), lu_ne (fun z => e (by rw [z]; rfl)), lu_ne (fun z => e (by rw [z]; rfl)), lu_ne (fun z => e (by rw [z]; rfl))]
              · have hk2 := nlt_of (by omega) hk hlt
                rw [nI_mul 40 a, nI_mul 40 b, nI_add (40 * a) k, nI_add (40 * b) k, nI_clamp (show 40 * a + k < 2 ^ 31 by omega), nI_clamp (show 40 * b + k < 2 ^ 31 by omega)]
                have hv : vp_in (nI (40 * a + k)) 120 := vp_inN (by omega) (by omega)
                have hv2 : vp_in (nI (40 * b + k)) 120 := vp_inN (by omega) (by omega)
                refine ⟨hv, hv2, fun z0 hz0 => ?_⟩
                have c0 := Cp.f hC hab 20 40 k rfl ⟨by omega, by omega, by omega, by omega⟩ (by exact hL 20 (by omega) (by omega)) hk2
                rw [← hz0] at c0
                refine ⟨hv, hv2, fun z1 hz1 => ?_⟩
                have c1 := Cp.f c0 hab 21 40 k rfl ⟨by omega, by omega, by omega, by omega⟩ (by rw [lu_ne (by omega)]; exact hL 21 (by omega) (by omega)) hk2
                rw [← hz1] at c1
                refine ⟨hv, hv2, fun z2 hz2 => ?_⟩
                have c2 := Cp.f c1 hab 22 40 k rfl ⟨by omega, by omega, by omega, by omega⟩ (by rw [lu_ne (by omega), lu_ne (by omega)]; exact hL 22 (by omega) (by omega)) hk2
                rw [← hz2] at c2
                refine ⟨hv, hv2, fun z3 hz3 => ?_⟩
                have c3 := Cp.f c2 hab 23 40 k rfl ⟨by omega, by omega, by omega, by omega⟩ (by rw [lu_ne (by omega), lu_ne (by omega), lu_ne (by omega)]; exact hL 23 (by omega) (by omega)) hk2
                rw [← hz3] at c3
                refine ⟨hv, hv2, fun z4 hz4 => ?_⟩
                have c4 := Cp.f c3 hab 24 40 k rfl ⟨by omega, by omega, by omega, by omega⟩ (by rw [lu_ne (by omega), lu_ne (by omega), lu_ne (by omega), lu_ne (by omega)]; exact hL 24 (by omega) (by omega)) hk2
                rw [← hz4] at c4
                refine ⟨40 - (k + 1), by omega, k + 1, _, by rw [nI_add], by omega, rfl, c4, hL.step (fun y hy hy3 e => ?_) (fun y hy hy3 e => ?_)⟩
                · rcases gp_6 y hy hy3 e with rfl | rfl | rfl | rfl | rfl <;> rfl
                · rw [lu_ne (fun z => e (by rw [z]; rfl)), lu_ne (fun z => e (by rw [z]; rfl)), lu_ne (fun z => e (by rw [z]; rfl)), lu_ne (fun z => e (by rw [z]; rfl)), lu_ne (fun z => e (by rw [z]; rfl))]
            · have hk2 := nlt_of (by omega) hk hlt
              rw [nI_mul 16 a, nI_mul 16 b, nI_add (16 * a) k, nI_add (16 * b) k, nI_clamp (show 16 * a + k < 2 ^ 31 by omega), nI_clamp (show 16 * b + k < 2 ^ 31 by omega)]
              have hv : vp_in (nI (16 * a + k)) 48 := vp_inN (by omega) (by omega)
              have hv2 : vp_in (nI (16 * b + k)) 48 := vp_inN (by omega) (by omega)
              refine ⟨hv, hv2, fun z0 hz0 => ?_⟩
              have c0 := Cp.g hC hab 18 16 k rfl (by omega) (by exact hL 18 (by omega) (by omega)) hk2
              rw [← hz0] at c0
              refine ⟨hv, hv2, fun z1 hz1 => ?_⟩
              have c1 := Cp.f c0 hab 19 16 k rfl ⟨by omega, by omega, by omega, by omega⟩ (by rw [lu_ne (by omega)]; exact hL 19 (by omega) (by omega)) hk2
              rw [← hz1] at c1
              refine ⟨16 - (k + 1), by omega, k + 1, _, by rw [nI_add], by omega, rfl, c1, hL.step (fun y hy hy3 e => ?_) (fun y hy hy3 e => ?_)⟩
              · rcases gp_5 y hy hy3 e with rfl | rfl <;> rfl
              · rw [lu_ne (fun z => e (by rw [z]; rfl)), lu_ne (fun z => e (by rw [z]; rfl))]
          · have hk2 := nlt_of (by omega) hk hlt
            rw [nI_mul 30 a, nI_mul 30 b, nI_add (30 * a) k, nI_add (30 * b) k, nI_clamp (show 30 * a + k < 2 ^ 31 by omega), nI_clamp (show 30 * b + k < 2 ^ 31 by omega)]
            have hv : vp_in (nI (30 * a + k)) 90 := vp_inN (by omega) (by omega)
            have hv2 : vp_in (nI (30 * b + k)) 90 := vp_inN (by omega) (by omega)
            refine ⟨hv, hv2, fun z0 hz0 => ?_⟩
            have c0 := Cp.f hC hab 16 30 k rfl ⟨by omega, by omega, by omega, by omega⟩ (by exact hL 16 (by omega) (by omega)) hk2
            rw [← hz0] at c0
            refine ⟨hv, hv2, fun z1 hz1 => ?_⟩
            have c1 := Cp.f c0 hab 17 30 k rfl ⟨by omega, by omega, by omega, by omega⟩ (by rw [lu_ne (by omega)]; exact hL 17 (by omega) (by omega)) hk2
            rw [← hz1] at c1
            refine ⟨30 - (k + 1), by omega, k + 1, _, by rw [nI_add], by omega, rfl, c1, hL.step (fun y hy hy3 e => ?_) (fun y hy hy3 e => ?_)⟩
            · rcases gp_4 y hy hy3 e with rfl | rfl <;> rfl
            · rw [lu_ne (fun z => e (by rw [z]; rfl)), lu_ne (fun z => e (by rw [z]; rfl))]
        · have hk2 := nlt_of (by omega) hk hlt
          rw [nI_mul 10 a, nI_mul 10 b, nI_add (10 * a) k, nI_add (10 * b) k, nI_clamp (show 10 * a + k < 2 ^ 31 by omega), nI_clamp (show 10 * b + k < 2 ^ 31 by omega)]
          have hv : vp_in (nI (10 * a + k)) 30 := vp_inN (by omega) (by omega)
          have hv2 : vp_in (nI (10 * b + k)) 30 := vp_inN (by omega) (by omega)
          refine ⟨hv, hv2, fun z0 hz0 => ?_⟩
          have c0 := Cp.f hC hab 9 10 k rfl ⟨by omega, by omega, by omega, by omega⟩ (by exact hL 9 (by omega) (by omega)) hk2
          rw [← hz0] at c0
          refine ⟨hv, hv2, fun z1 hz1 => ?_⟩
          have c1 := Cp.f c0 hab 10 10 k rfl ⟨by omega, by omega, by omega, by omega⟩ (by rw [lu_ne (by omega)]; exact hL 10 (by omega) (by omega)) hk2
          rw [← hz1] at c1
          refine ⟨hv, hv2, fun z2 hz2 => ?_⟩
          have c2 := Cp.f c1 hab 11 10 k rfl ⟨by omega, by omega, by omega, by omega⟩ (by rw [lu_ne (by omega), lu_ne (by omega)]; exact hL 11 (by omega) (by omega)) hk2
          rw [← hz2] at c2
          refine ⟨hv, hv2, fun z3 hz3 => ?_⟩
          have c3 := Cp.f c2 hab 12 10 k rfl ⟨by omega, by omega, by omega, by omega⟩ (by rw [lu_ne (by omega), lu_ne (by omega), lu_ne (by omega)]; exact hL 12 (by omega) (by omega)) hk2
          rw [← hz3] at c3
          refine ⟨hv, hv2, fun z4 hz4 => ?_⟩
          have c4 := Cp.f c3 hab 13 10 k rfl ⟨by omega, by omega, by omega, by omega⟩ (by rw [lu_ne (by omega), lu_ne (by omega), lu_ne (by omega), lu_ne (by omega)]; exact hL 13 (by omega) (by omega)) hk2
          rw [← hz4] at c4
          refine ⟨hv, hv2, fun z5 hz5 => ?_⟩
          have c5 := Cp.f c4 hab 14 10 k rfl ⟨by omega, by omega, by omega, by omega⟩ (by rw [lu_ne (by omega), lu_ne (by omega), lu_ne (by omega), lu_ne (by omega), lu_ne (by omega)]; exact hL 14 (by omega) (by omega)) hk2
          rw [← hz5] at c5
          refine ⟨hv, hv2, fun z6 hz6 => ?_⟩
          have c6 := Cp.f c5 hab 15 10 k rfl ⟨by omega, by omega, by omega, by omega⟩ (by rw [lu_ne (by omega), lu_ne (by omega), lu_ne (by omega), lu_ne (by omega), lu_ne (by omega), lu_ne (by omega)]; exact hL 15 (by omega) (by omega)) hk2
          rw [← hz6] at c6
          refine ⟨10 - (k + 1), by omega, k + 1, _, by rw [nI_add], by omega, rfl, c6, hL.step (fun y hy hy3 e => ?_) (fun y hy hy3 e => ?_)⟩
          · rcases gp_3 y hy hy3 e with rfl | rfl | rfl | rfl | rfl | rfl | rfl <;> rfl
          · rw [lu_ne (fun z => e (by rw [z]; rfl)), lu_ne (fun z => e (by rw [z]; rfl)), lu_ne (fun z => e (by rw [z]; rfl)), lu_ne (fun z => e (by rw [z]; rfl)), lu_ne (fun z => e (by rw [z]; rfl)), lu_ne (fun z => e (by rw [z]; rfl)), lu_ne (fun z => e (by rw [z]; rfl))]
      · have hk2 := nlt_of (by omega) hk hlt
        rw [nI_mul 18 a, nI_mul 18 b, nI_add (18 * a) k, nI_add (18 * b) k, nI_clamp (show 18 * a + k < 2 ^ 31 by omega), nI_clamp (show 18 * b + k < 2 ^ 31 by omega)]
        have hv : vp_in (nI (18 * a + k)) 54 := vp_inN (by omega) (by omega)
        have hv2 : vp_in (nI (18 * b + k)) 54 := vp_inN (by omega) (by omega)
        refine ⟨hv, hv2, fun z0 hz0 => ?_⟩
        have c0 := Cp.f hC hab 6 18 k rfl ⟨by omega, by omega, by omega, by omega⟩ (by exact hL 6 (by omega) (by omega)) hk2
        rw [← hz0] at c0
        refine ⟨hv, hv2, fun z1 hz1 => ?_⟩
        have c1 := Cp.f c0 hab 7 18 k rfl ⟨by omega, by omega, by omega, by omega⟩ (by rw [lu_ne (by omega)]; exact hL 7 (by omega) (by omega)) hk2
        rw [← hz1] at c1
        refine ⟨18 - (k + 1), by omega, k + 1, _, by rw [nI_add], by omega, rfl, c1, hL.step (fun y hy hy3 e => ?_) (fun y hy hy3 e => ?_)⟩
        · rcases gp_2 y hy hy3 e with rfl | rfl <;> rfl
        · rw [lu_ne (fun z => e (by rw [z]; rfl)), lu_ne (fun z => e (by rw [z]; rfl))]
    · have hk2 := nlt_of (by omega) hk hlt
      rw [nI_mul 6 a, nI_mul 6 b, nI_add (6 * a) k, nI_add (6 * b) k, nI_clamp (show 6 * a + k < 2 ^ 31 by omega), nI_clamp (show 6 * b + k < 2 ^ 31 by omega)]
      have hv : vp_in (nI (6 * a + k)) 18 := vp_inN (by omega) (by omega)
      have hv2 : vp_in (nI (6 * b + k)) 18 := vp_inN (by omega) (by omega)
      refine ⟨hv, hv2, fun z0 hz0 => ?_⟩
      have c0 := Cp.g hC hab 4 6 k rfl (by omega) (by exact hL 4 (by omega) (by omega)) hk2
      rw [← hz0] at c0
      refine ⟨hv, hv2, fun z1 hz1 => ?_⟩
      have c1 := Cp.f c0 hab 5 6 k rfl ⟨by omega, by omega, by omega, by omega⟩ (by rw [lu_ne (by omega)]; exact hL 5 (by omega) (by omega)) hk2
      rw [← hz1] at c1
      refine ⟨hv, hv2, fun z2 hz2 => ?_⟩
      have c2 := Cp.f c1 hab 8 6 k rfl ⟨by omega, by omega, by omega, by omega⟩ (by rw [lu_ne (by omega), lu_ne (by omega)]; exact hL 8 (by omega) (by omega)) hk2
      rw [← hz2] at c2
      refine ⟨6 - (k + 1), by omega, k + 1, _, by rw [nI_add], by omega, rfl, c2, hL.step (fun y hy hy3 e => ?_) (fun y hy hy3 e => ?_)⟩
      · rcases gp_1 y hy hy3 e with rfl | rfl | rfl <;> rfl
      · rw [lu_ne (fun z => e (by rw [z]; rfl)), lu_ne (fun z => e (by rw [z]; rfl)), lu_ne (fun z => e (by rw [z]; rfl))]
  · have hk2 := nlt_of (by omega) hk hlt
    rw [nI_mul 7 a, nI_mul 7 b, nI_add (7 * a) k, nI_add (7 * b) k, nI_clamp (show 7 * a + k < 2 ^ 31 by omega), nI_clamp (show 7 * b + k < 2 ^ 31 by omega)]
    have hv : vp_in (nI (7 * a + k)) 21 := vp_inN (by omega) (by omega)
    have hv2 : vp_in (nI (7 * b + k)) 21 := vp_inN (by omega) (by omega)
    refine ⟨hv, hv2, fun z0 hz0 => ?_⟩
    have c0 := Cp.f hC hab 3 7 k rfl ⟨by omega, by omega, by omega, by omega⟩ (by exact hL 3 (by omega) (by omega)) hk2
    rw [← hz0] at c0
    refine ⟨7 - (k + 1), by omega, k + 1, _, by rw [nI_add], by omega, rfl, c0, hL.step (fun y hy hy3 e => ?_) (fun y hy hy3 e => ?_)⟩
    · have := gp_0 y hy hy3 e; subst this; rfl
    · rw [lu_ne (fun z => e (by rw [z]; rfl))]
theorem RepT.copy {σ σ' : TS} {a b : Nat} {E : Ed} (h : RepT σ a E) (hb : b < 3) (h1 : ∀ x j, 3 ≤ x → x ≤ 28 → x ≠ 4 → x ≠ 18 → j < Wd x → sf σ' x (Wd x * b + j) = sf σ x (Wd x * a + j)) (h2 : ∀ x j, x = 4 ∨ x = 18 → j < Wd x → sg σ' x (Wd x * b + j) = sg σ x (Wd x * a + j)) : RepT σ' b E := by
  obtain ⟨hd, ⟨a1, a2, a3⟩, ⟨b1, b2, b3⟩, ⟨c1, c2, c3⟩, ⟨d1, d2, d3⟩, ⟨e1, e2, e3⟩, f1, f2, f3⟩ := h
  have g : ∀ x W j, Wd x = W → 3 ≤ x → x ≤ 28 → x ≠ 4 → x ≠ 18 → j < W → sf σ' x (W * b + j) = sf σ x (W * a + j) := fun x W j hW h3 h4 h5 h6 h7 => by subst hW; exact h1 x j h3 h4 h5 h6 h7
  have g2 : ∀ x W j, Wd x = W → x = 4 ∨ x = 18 → j < W → sg σ' x (W * b + j) = sg σ x (W * a + j) := fun x W j hW h3 h7 => by subst hW; exact h2 x j h3 h7
  refine ⟨hb, ⟨?_, a2, fun k hk => ?_⟩, ⟨?_, b2, fun k hk => ?_⟩, ⟨?_, c2, fun k hk => ?_⟩, ⟨?_, d2, fun k hk => ?_⟩, ⟨?_, e2, fun k hk => ?_⟩, ?_, f2, fun k hk => ?_⟩
  · exact (g 3 7 0 rfl (by omega) (by omega) (by omega) (by omega) (by omega)).trans a1
  · obtain ⟨q1, q2, q3, q4, q5⟩ := a3 k hk
    refine ⟨?_, ?_, q3, fun j hj => ⟨?_, ?_⟩, ?_⟩
    · exact (g2 4 6 k rfl (by omega) (by omega)).trans q1
    · exact (g 5 6 k rfl (by omega) (by omega) (by omega) (by omega) (by omega)).trans q2
    · have := g 6 18 (3 * k + j) rfl (by omega) (by omega) (by omega) (by omega) (by omega)
      rw [show 3 * (6 * b + k) + j = 18 * b + (3 * k + j) by omega, this, show 18 * a + (3 * k + j) = 3 * (6 * a + k) + j by omega]; exact (q4 j hj).1
    · have := g 7 18 (3 * k + j) rfl (by omega) (by omega) (by omega) (by omega) (by omega)
      rw [show 3 * (6 * b + k) + j = 18 * b + (3 * k + j) by omega, this, show 18 * a + (3 * k + j) = 3 * (6 * a + k) + j by omega]; exact (q4 j hj).2
    · exact (g 8 6 k rfl (by omega) (by omega) (by omega) (by omega) (by omega)).trans q5
  · exact (g 3 7 1 rfl (by omega) (by omega) (by omega) (by omega) (by omega)).trans b1
  · obtain ⟨q1, q2, q3⟩ := b3 k hk
    exact ⟨(g 9 10 k rfl (by omega) (by omega) (by omega) (by omega) (by omega)).trans q1, (g 10 10 k rfl (by omega) (by omega) (by omega) (by omega) (by omega)).trans q2, (g 11 10 k rfl (by omega) (by omega) (by omega) (by omega) (by omega)).trans q3⟩
  · exact (g 3 7 2 rfl (by omega) (by omega) (by omega) (by omega) (by omega)).trans c1
  · obtain ⟨q1, q2, q3, q4, q5, q6⟩ := c3 k hk
    refine ⟨(g 12 10 k rfl (by omega) (by omega) (by omega) (by omega) (by omega)).trans q1, (g 13 10 k rfl (by omega) (by omega) (by omega) (by omega) (by omega)).trans q2, (g 14 10 k rfl (by omega) (by omega) (by omega) (by omega) (by omega)).trans q3, (g 15 10 k rfl (by omega) (by omega) (by omega) (by omega) (by omega)).trans q4, q5, fun j hj => ⟨?_, ?_⟩⟩
    · have := g 16 30 (3 * k + j) rfl (by omega) (by omega) (by omega) (by omega) (by omega)
      rw [show 3 * (10 * b + k) + j = 30 * b + (3 * k + j) by omega, this, show 30 * a + (3 * k + j) = 3 * (10 * a + k) + j by omega]; exact (q6 j hj).1
    · have := g 17 30 (3 * k + j) rfl (by omega) (by omega) (by omega) (by omega) (by omega)
      rw [show 3 * (10 * b + k) + j = 30 * b + (3 * k + j) by omega, this, show 30 * a + (3 * k + j) = 3 * (10 * a + k) + j by omega]; exact (q6 j hj).2
  · exact (g 3 7 3 rfl (by omega) (by omega) (by omega) (by omega) (by omega)).trans d1
  · obtain ⟨q1, q2⟩ := d3 k hk
    exact ⟨(g2 18 16 k rfl (by omega) (by omega)).trans q1, (g 19 16 k rfl (by omega) (by omega) (by omega) (by omega) (by omega)).trans q2⟩
  · exact (g 3 7 4 rfl (by omega) (by omega) (by omega) (by omega) (by omega)).trans e1
  · obtain ⟨q1, q2, q3⟩ := e3 k hk
    exact ⟨(g 20 40 k rfl (by omega) (by omega) (by omega) (by omega) (by omega)).trans q1, (g 24 40 k rfl (by omega) (by omega) (by omega) (by omega) (by omega)).trans q2, fun z => ⟨(g 21 40 k rfl (by omega) (by omega) (by omega) (by omega) (by omega)).trans (q3 z).1, (g 22 40 k rfl (by omega) (by omega) (by omega) (by omega) (by omega)).trans (q3 z).2.1, (g 23 40 k rfl (by omega) (by omega) (by omega) (by omega) (by omega)).trans (q3 z).2.2⟩⟩
  · exact (g 3 7 5 rfl (by omega) (by omega) (by omega) (by omega) (by omega)).trans f1
  · obtain ⟨q1, q2, q3, q4⟩ := f3 k hk
    exact ⟨(g 25 400 k rfl (by omega) (by omega) (by omega) (by omega) (by omega)).trans q1, (g 26 400 k rfl (by omega) (by omega) (by omega) (by omega) (by omega)).trans q2, (g 27 400 k rfl (by omega) (by omega) (by omega) (by omega) (by omega)).trans q3, fun z => (g 28 400 k rfl (by omega) (by omega) (by omega) (by omega) (by omega)).trans (q4 z)⟩
theorem tc_keep {σ : TS} {M : MS} {post : Int32 → TS → Prop} (h : TR σ M) (hp : ∀ σ', TR σ' (mE M, some (mE M), mS M, mT M, mF M) → post (nI (eCl (mE M)).length) σ') : wp_keep post σ := by
  intro z1 hz1
  have h' : TR z1 M := by rw [hz1]; exact h.t
  obtain ⟨a, b, c, ⟨l1, l2, l3, n1, n2, n3⟩, h2, h3, h4, h5, h6, h7, h8, h9, h10, h11⟩ := h'
  rw [h2, h3]
  refine tsp_copies l1 l2 n1 (fun z lim hC hL z3 hz3 => ?_)
  have x3 : ∀ k, k ≠ 32 → sx z3 k = sx z1 k := fun k hk => by rw [hz3, sx_ux, if_neg hk]; exact hC.1 k
  have f3 : ∀ x j, sf z3 x j = sf z x j := fun x j => by rw [hz3, sf_ux]
  have g3 : ∀ x j, sg z3 x j = sg z x j := fun x j => by rw [hz3, sg_ux]
  have fo : ∀ x j, j / Wd x ≠ b ∨ x < 3 ∨ 28 < x → sf z3 x j = sf z1 x j := fun x j hx => by rw [f3, hC.2.1, if_neg (fun z => by have := z.1; have := z.2.1; omega)]
  have go : ∀ x j, j / Wd x ≠ b → sg z3 x j = sg z1 x j := fun x j hx => by rw [g3, hC.2.2, if_neg (fun z => hx z.2.1)]
  have hRa : RepT z3 a (mE M) := h5.same (fun x j _ _ hj => fo x j (Or.inl (by rw [hj]; exact n1))) (fun x j _ hj => go x j (by rw [hj]; exact n1))
  have hRb : RepT z3 b (mE M) := by
    refine h5.copy l2 (fun x j h1 h2 h3 h4 hj => ?_) (fun x j hx hj => ?_)
    · rw [f3, hC.2.1, (Wd_div hj).1, (Wd_div hj).2, if_pos ⟨⟨h1, h2, h3, h4⟩, rfl, by rw [hL x (by omega) h1]; exact hj⟩]
    · rw [g3, hC.2.2, (Wd_div hj).1, (Wd_div hj).2, if_pos ⟨hx, rfl, by rw [hL x (by omega) (by omega)]; exact hj⟩]
  rw [x3 29 (by omega), h2]
  refine tsp_classes l1 hRa.2.2.2.2.1.1 (hp z3 ?_)
  exact ⟨a, b, c, ⟨l1, l2, l3, n1, n2, n3⟩, (x3 _ (by omega)).trans h2, (x3 _ (by omega)).trans h3, (x3 _ (by omega)).trans h4, hRa, h6, ⟨by rw [hz3, sx_ux, if_pos rfl]; rfl, hRb, h6⟩, h8.same (x3 _ (by omega)) (fun x j _ _ => fo x j (by omega)), h9.same (x3 _ (by omega)) (fun x j _ => fo x j (by omega)), h10.same (x3 _ (by omega)) (fun j => fo 0 j (by omega)), (x3 _ (by omega)).trans h11⟩
