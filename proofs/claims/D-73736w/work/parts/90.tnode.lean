/-! The model's parser: conditions joined, nodes, trees -/
set_option maxRecDepth 100000
def SPk (c : Nat) (σ0 : TS) (bs : List Nat) (o t : Nat) (p : PS → Except Nat (Nat × PS)) (W : (Int32 → TS → Prop) → TS → Prop) : Prop := ∀ (σ : TS) (s : PS) (post : Int32 → TS → Prop), TT c σ0 bs o t σ s → 3 * cnL s ≤ pAt s → (∀ q σ', p s = .ok q → TT c σ0 bs o t σ' q.2 → post (nI q.1) σ') → (∀ f σ' v, p s = .error f → BD c σ0 σ' f → post v σ') → W post σ
def SBk (c : Nat) (σ0 : TS) (W : (Int32 → TS → Prop) → TS → Prop) : Prop := ∀ (σ : TS) (f : Nat) (post : Int32 → TS → Prop), BD c σ0 σ f → (∀ v σ', BD c σ0 σ' f → post v σ') → W post σ
def wJ (rc : (Int32 → TS → Prop) → TS → Prop) (w op : Nat) (post : Int32 → TS → Prop) (z0 : TS) : Prop := rc (fun r2 z1 => ∃ I3 : Nat → TS → Int32 → Prop, (∃ n9, I3 n9 z1 r2) ∧ ∀ (n4 : Nat) (z5 : TS) (x8 : Int32), I3 n4 z5 x8 → wp_isWord (fun b11 z10 => (b11 = false → post x8 z10) ∧ (b11 = true → wp_next (fun z13 => rc (fun r15 z14 => (¬ (sx z14 48) = 0 → ∃ n17, n17 < n4 ∧ I3 n17 z14 x8) ∧ ((sx z14 48) = 0 → wp_newCond (fun r19 z18 => ∃ n20, n20 < n4 ∧ I3 n20 z18 r19) z14 (nI op) x8 r15 ((-1)))) z13) z10)) z5 w) z0
theorem wb_cond_J (rc : Nat → (Int32 → TS → Prop) → TS → Prop) : wb_cond rc = wJ (rc 1) 13 0 := rfl
theorem wb_all_J (rc : Nat → (Int32 → TS → Prop) → TS → Prop) : wb_all rc = wJ (rc 2) 1 1 := rfl
theorem tb_join {c : Nat} {σ0 : TS} {w op : Nat} {rc : (Int32 → TS → Prop) → TS → Prop} (B : SBk c σ0 rc) : SBk c σ0 (wJ rc w op) := by
  intro σ f post h hp
  refine B σ f _ h (fun v z1 h1 => ⟨fun _ z _ => BD c σ0 z f, ⟨0, h1⟩, ?_⟩)
  rintro n4 z5 x8 h5
  exact tb_isWord h5.2 ⟨fun _ => hp x8 z5 h5, fun z => (by cases z)⟩
theorem tt_join {c : Nat} {σ0 : TS} {bs : List Nat} {o t w op : Nat} {p : PS → Except Nat (Nat × PS)} {rc : (Int32 → TS → Prop) → TS → Prop} (S : SPk c σ0 bs o t p rc) (B : SBk c σ0 rc) (hg : ∀ s q, tkB bs s.1 → p s = .ok q → CG bs s q) (hw : w < 20) (hl : 2 ≤ (wd w).length) (hop : op < 3) : SPk c σ0 bs o t (pJoin bs w op p) (wJ rc w op) := by
  intro σ s post h hb h1 h2
  refine S σ s _ h hb (fun q0 z1 e0 T1 => ?_) (fun f z1 v e0 g => ?_)
  · have eJ : pJoin bs w op p s = pChain bs w op p (bs.length + 1) q0.1 q0.2 := by unfold pJoin; rw [e0]; rfl
    obtain ⟨k1, k2, k3, k4⟩ := hg s q0 h.tb e0
    refine ⟨fun n z x => (∃ f cc q, n = f + 1 ∧ x = nI cc ∧ TT c σ0 bs o t z q ∧ pJoin bs w op p s = pChain bs w op p f cc q ∧ bs.length + 1 ≤ f + pAt q ∧ 3 * cnL q + 2 ≤ pAt q) ∨ (∃ f, BD c σ0 z f ∧ pJoin bs w op p s = .error f), ⟨bs.length + 2, Or.inl ⟨bs.length + 1, q0.1, q0.2, rfl, rfl, T1, eJ, by omega, by omega⟩⟩, ?_⟩
    rintro n4 z5 x8 (⟨f, cc, q, hn, hx, T5, e5, hf, hcn⟩ | ⟨f, g, e⟩)
    · have htb := T5.tb
      have hat : pAt q ≤ bs.length := Nat.le_trans htb.1 htb.2.1
      have hlen := T5.lk.1.2.1
      obtain ⟨f', rfl⟩ : ∃ f', f = f' + 1 := ⟨f - 1, by omega⟩
      rw [pChain_step] at e5
      refine tn_isWord T5.lk hw ⟨fun hb1 => ?_, fun hb1 => ?_⟩
      · rw [if_neg (by rw [hb1]; decide)] at e5
        rw [hx]
        exact h1 (cc, q) z5 e5 T5
      · rw [if_pos hb1] at e5
        have hp := isW_p htb hb1
        have n1 := nxt_b htb
        refine tn_nxt T5.lk (fun z13 n13 L13 _ => ?_)
        have T13 : TT c σ0 bs o t z13 (nxt bs q) := T5.nf n13 L13 rfl
        have ecn : cnL (nxt bs q) = cnL q := rfl
        refine S z13 (nxt bs q) _ T13 (by omega) (fun v z14 ev T14 => ?_) (fun f2 z14 v ev g => ?_)
        · rw [ev] at e5
          obtain ⟨m1, m2, m3, m4⟩ := hg _ v n1.1 ev
          have hvat : pAt v.2 ≤ bs.length := Nat.le_trans m1.1 m1.2.1
          refine ⟨fun z => absurd T14.lk.2.1 z, fun _ => ?_⟩
          rw [hx]
          refine tt_newCond (u' := 0) T14 (by omega) (fun h3 => absurd h3 (by omega)) (fun z18 T18 => ⟨f' + 1, by omega, Or.inl ⟨f', cnL v.2, (nwC v.2 (op, nI cc, nI v.1, 0)).2, rfl, rfl, T18, e5, ?_, ?_⟩⟩)
          · show bs.length + 1 ≤ f' + pAt v.2
            omega
          · rw [nwC_c]
            show 3 * (cnL v.2 + 1) + 2 ≤ pAt v.2
            omega
        · rw [ev] at e5
          exact ⟨fun _ => ⟨0, by omega, Or.inr ⟨f2, g, e5⟩⟩, fun z => absurd z g.2.ne⟩
    · exact tb_isWord g.2 ⟨fun _ => h2 f z5 x8 e g, fun z => (by cases z)⟩
  · have eJ : pJoin bs w op p s = .error f := by unfold pJoin; rw [e0]; rfl
    refine ⟨fun _ z _ => BD c σ0 z f, ⟨0, g⟩, ?_⟩
    rintro n4 z5 x8 h5
    exact tb_isWord h5.2 ⟨fun _ => h2 f z5 x8 eJ h5, fun z => (by cases z)⟩
theorem tb_one {c : Nat} {σ0 : TS} {rc : Nat → (Int32 → TS → Prop) → TS → Prop} : SBk c σ0 (wb_one rc) := by
  intro σ f post h hp
  exact ⟨fun z => absurd z h.2.nle, fun _ => hp _ σ h⟩
theorem tb_c3 {c : Nat} {σ0 : TS} : ∀ k t, 3 ≤ k + t → k ≠ 0 → SBk c σ0 (wp_c3 k t) := by
  intro k
  induction k with
  | zero => intro t _ h; exact absurd rfl h
  | succ k ih =>
    intro t hk _
    by_cases h0 : t = 0
    · subst h0
      have e : wp_c3 (k + 1) 0 = wb_cond (wp_c3 k) := rfl
      rw [e, wb_cond_J]
      exact tb_join (ih 1 (by omega) (by omega))
    · by_cases h1 : t = 1
      · subst h1
        have e : wp_c3 (k + 1) 1 = wb_all (wp_c3 k) := rfl
        rw [e, wb_all_J]
        exact tb_join (ih 2 (by omega) (by omega))
      · have e : wp_c3 (k + 1) t = wb_one (wp_c3 k) := by
          show (if t = 0 then wb_cond (wp_c3 k) else if t = 1 then wb_all (wp_c3 k) else wb_one (wp_c3 k)) = _
          rw [if_neg h0, if_neg h1]
        rw [e]
        exact tb_one
theorem tt_one {c : Nat} {σ0 : TS} {bs : List Nat} {o t : Nat} {rp : Option (PS → Except Nat (Nat × PS))} {rc : Nat → (Int32 → TS → Prop) → TS → Prop} (ho : o = 9 → rp = none) (hr : o < 9 → ∃ r, rp = some r ∧ SPk c σ0 bs (o + 1) t r (rc 2) ∧ SPk c σ0 bs (o + 1) t (pCondB bs r) (rc 0) ∧ ∀ s q, tkB bs s.1 → r s = .ok q → CG bs s q) (B0 : SBk c σ0 (rc 0)) (B2 : SBk c σ0 (rc 2)) : SPk c σ0 bs o t (pOneB bs rp) (wb_one rc) := by
  intro σ s post h hb h1 h2
  have L := h.lk
  have htb := h.tb
  have n1 := nxt_b htb
  have hat : pAt s ≤ 900 := L.at
  have hcn : cnL s < 400 := by omega
  refine ⟨fun _ => tn_isWord L (by omega) ⟨fun k12 => tn_isSign L (by omega) ⟨fun k40 => ?_, fun k40 => ?_⟩, fun k12 => ?_⟩, fun z => absurd L.le z⟩
  · have eO : pOneB bs rp s = if isW s 8 = true then pSpanC bs 3 s else if isW s 11 = true then pSpanC bs 4 s else if isW s 6 = true then pSpanC bs 5 s else if isW s 0 = true then pComp bs 6 s else if isW s 5 = true then pComp bs 7 s else if isW s 10 = true then pComp bs 8 s else if isW s 18 = true then pComp bs 9 s else er s 1 := by
      unfold pOneB
      rw [if_neg (by rw [k12]; decide), if_neg (by rw [k40]; decide)]
    rw [eO] at h1 h2
    refine tn_isWord L (by omega) ⟨fun k8 => ?_, fun k8 => ?_⟩
    · rw [if_neg (by rw [k8]; decide)] at h1 h2
      refine tn_isWord L (by omega) ⟨fun k11 => ?_, fun k11 => ?_⟩
      · rw [if_neg (by rw [k11]; decide)] at h1 h2
        refine tn_isWord L (by omega) ⟨fun k6 => ?_, fun k6 => ?_⟩
        · rw [if_neg (by rw [k6]; decide)] at h1 h2
          refine ⟨fun z x => z = σ ∧ ((x = -1 ∧ isW s 0 = false ∧ isW s 5 = false ∧ isW s 10 = false ∧ isW s 18 = false) ∨ ∃ w, 6 ≤ w ∧ w ≤ 9 ∧ x = nI w ∧ (if isW s 0 = true then pComp bs 6 s else if isW s 5 = true then pComp bs 7 s else if isW s 10 = true then pComp bs 8 s else if isW s 18 = true then pComp bs 9 s else er s 1) = pComp bs w s), ?_, ?_⟩
          · rintro z19 x20 ⟨rfl, ⟨hx, a0, a5, a10, a18⟩ | ⟨w, w6, w9, hx, ew⟩⟩
            · refine ⟨fun _ => tn_wrong (α := Nat × PS) L (by omega) (fun z f n g e => h2 f z _ ?_ ⟨h.pf.nf n, g⟩), fun z => absurd (by rw [hx]; decide) z⟩
              rw [if_neg (by rw [a0]; decide), if_neg (by rw [a5]; decide), if_neg (by rw [a10]; decide), if_neg (by rw [a18]; decide)]
              exact e
            · rw [ew] at h1 h2
              rw [hx]
              exact ⟨fun z => absurd z (nI_pos (by omega)), fun _ => tt_comp h ⟨w6, w9⟩ hcn (fun q z e T => h1 q z e T) (fun f z v e g => h2 f z v e g)⟩
          · refine tn_isWord L (by omega) ⟨fun a0 => tn_isWord L (by omega) ⟨fun a5 => tn_isWord L (by omega) ⟨fun a10 => tn_isWord L (by omega) ⟨fun a18 => ⟨rfl, Or.inl ⟨rfl, a0, a5, a10, a18⟩⟩, fun a18 => ⟨rfl, Or.inr ⟨9, by omega, by omega, rfl, ?_⟩⟩⟩, fun a10 => ⟨rfl, Or.inr ⟨8, by omega, by omega, rfl, ?_⟩⟩⟩, fun a5 => ⟨rfl, Or.inr ⟨7, by omega, by omega, rfl, ?_⟩⟩⟩, fun a0 => ⟨rfl, Or.inr ⟨6, by omega, by omega, rfl, ?_⟩⟩⟩
            · rw [if_neg (by rw [a0]; decide), if_neg (by rw [a5]; decide), if_neg (by rw [a10]; decide), if_pos a18]
            · rw [if_neg (by rw [a0]; decide), if_neg (by rw [a5]; decide), if_pos a10]
            · rw [if_neg (by rw [a0]; decide), if_pos a5]
            · rw [if_pos a0]
        · rw [if_pos k6] at h1 h2
          exact tt_spanC h (by omega) hcn (fun q z e T => h1 q z e T) (fun f z v e g => h2 f z v e g)
      · rw [if_pos k11] at h1 h2
        exact tt_spanC h (by omega) hcn (fun q z e T => h1 q z e T) (fun f z v e g => h2 f z v e g)
    · rw [if_pos k8] at h1 h2
      exact tt_spanC h (by omega) hcn (fun q z e T => h1 q z e T) (fun f z v e g => h2 f z v e g)
  · have hp1 := isS_p htb k40
    refine tt_opens (α := Nat × PS) h (fun ho9 z44 T44 => ?_) (fun h9 z44 f g e => ?_)
    · obtain ⟨r, hrp, S2, S0, hgr⟩ := hr ho9
      have eO : pOneB bs rp s = pClose bs (pCondB bs r (nxt bs s)) := by
        unfold pOneB
        rw [if_neg (by rw [k12]; decide), if_pos k40, hrp]
      rw [eO] at h1 h2
      have ecn : cnL (nxt bs s) = cnL s := rfl
      refine S0 z44 (nxt bs s) _ T44 (by omega) (fun v z45 ev T45 => ?_) (fun f z45 v ev g => ?_)
      · refine tn_mustSign T45.lk (by omega) (fun z47 n47 o47 => ?_)
        intro z48 hz48
        have eC : pClose bs (pCondB bs r (nxt bs s)) = bnd (pMustS bs 41 v.2) (fun s => .ok (v.1, s)) := by
          unfold pClose
          rw [ev]; rfl
        rw [eC] at h1 h2
        cases hm : pMustS bs 41 v.2 with
        | error f =>
          rw [hm] at o47 h1 h2
          have g : FL z47 f := o47
          refine h2 f z48 _ rfl ?_
          rw [hz48]
          exact ⟨(T45.pf.nf n47).ux (by omega), g.ux (by omega)⟩
        | ok s' =>
          rw [hm] at o47 h1 h2
          refine h1 (v.1, s') z48 rfl ?_
          rw [hz48]
          exact (T45.nf n47 (s' := s') o47 (pMustS_2 hm)).less
      · refine tb_mustSign g.2 ?_
        intro z48 hz48
        refine h2 f z48 _ ?_ (by rw [hz48]; exact ⟨g.1.ux (by omega), g.2.ux (by omega)⟩)
        unfold pClose
        rw [ev]; rfl
    · have eO : pOneB bs rp s = er s 4 := by
        unfold pOneB
        rw [if_neg (by rw [k12]; decide), if_pos k40, ho h9]
      refine B0 z44 f _ g (fun v z45 g45 => tb_mustSign g45.2 ?_)
      intro z48 hz48
      exact h2 f z48 _ (eO.trans e) (by rw [hz48]; exact ⟨g45.1.ux (by omega), g45.2.ux (by omega)⟩)
  · have hp1 := isW_p htb k12
    have l12 : (wd 12).length = 3 := by decide
    refine tt_opens (α := Nat × PS) h (fun ho9 z44 T44 => ?_) (fun h9 z44 f g e => ?_)
    · obtain ⟨r, hrp, S2, S0, hgr⟩ := hr ho9
      have eO : pOneB bs rp s = bnd (r (nxt bs s)) (fun q => .ok (nwC q.2 (2, nI q.1, -1, 0))) := by
        unfold pOneB
        rw [if_pos k12, hrp]
      rw [eO] at h1 h2
      have ecn : cnL (nxt bs s) = cnL s := rfl
      refine S2 z44 (nxt bs s) _ T44 (by omega) (fun v z50 ev T50 => ?_) (fun f z50 v ev g => ?_)
      · intro z52 hz52
        have T52 : TT c σ0 bs o t z52 v.2 := by rw [hz52]; exact T50.less
        obtain ⟨m1, m2, m3, m4⟩ := hgr _ v n1.1 ev
        have hvat : pAt v.2 ≤ 900 := T52.lk.at
        rw [ev] at h1 h2
        refine ⟨fun _ => tt_newCond (u' := 0) T52 (by omega) (fun h3 => absurd h3 (by omega)) (fun z54 T54 => h1 _ z54 rfl T54), fun z => absurd T52.lk.le z⟩
      · intro z52 hz52
        have g52 : BD c σ0 z52 f := by rw [hz52]; exact ⟨g.1.ux (by omega), g.2.ux (by omega)⟩
        rw [ev] at h2
        exact ⟨fun z => absurd z g52.2.nle, fun _ => h2 f z52 _ rfl g52⟩
    · have eO : pOneB bs rp s = er s 4 := by
        unfold pOneB
        rw [if_pos k12, ho h9]
      refine B2 z44 f _ g (fun v z50 g50 => ?_)
      intro z52 hz52
      have g52 : BD c σ0 z52 f := by rw [hz52]; exact ⟨g50.1.ux (by omega), g50.2.ux (by omega)⟩
      exact ⟨fun z => absurd z g52.2.nle, fun _ => h2 f z52 _ (eO.trans e) g52⟩
theorem tt_allK {c : Nat} {σ0 : TS} {bs : List Nat} {o t m : Nat} {p : PS → Except Nat (Nat × PS)} (A : ∀ K, m ≤ K → SPk c σ0 bs o t p (wp_c3 K 2)) (hg : ∀ s q, tkB bs s.1 → p s = .ok q → CG bs s q) (hm : 1 ≤ m) : ∀ K, m + 1 ≤ K → SPk c σ0 bs o t (pAllB bs p) (wp_c3 K 1) := by
  intro K hK
  obtain ⟨K, rfl⟩ : ∃ j, K = j + 1 := ⟨K - 1, by omega⟩
  have e : wp_c3 (K + 1) 1 = wb_all (wp_c3 K) := rfl
  rw [e, wb_all_J]
  exact tt_join (A K (by omega)) (tb_c3 K 2 (by omega) (by omega)) hg (by omega) (by decide) (by omega)
theorem tt_condK {c : Nat} {σ0 : TS} {bs : List Nat} {o t m : Nat} {p : PS → Except Nat (Nat × PS)} (A : ∀ K, m ≤ K → SPk c σ0 bs o t p (wp_c3 K 2)) (hg : ∀ s q, tkB bs s.1 → p s = .ok q → CG bs s q) (hm : 1 ≤ m) : ∀ K, m + 2 ≤ K → SPk c σ0 bs o t (pCondB bs p) (wp_c3 K 0) := by
  intro K hK
  obtain ⟨K, rfl⟩ : ∃ j, K = j + 1 := ⟨K - 1, by omega⟩
  have e : wp_c3 (K + 1) 0 = wb_cond (wp_c3 K) := rfl
  rw [e, wb_cond_J]
  exact tt_join (tt_allK A hg hm K (by omega)) (tb_c3 K 1 (by omega) (by omega)) (pJoin_pg hg (by decide)) (by omega) (by decide) (by omega)
theorem tt_c3 {c : Nat} {σ0 : TS} {bs : List Nat} {t : Nat} : ∀ (d : Nat), d ≤ 9 → ∀ K, 3 * d + 4 ≤ K → SPk c σ0 bs (9 - d) t (pO bs d) (wp_c3 K 2) := by
  intro d
  induction d with
  | zero =>
    intro hd K hK
    obtain ⟨K, rfl⟩ : ∃ j, K = j + 1 := ⟨K - 1, by omega⟩
    have e : wp_c3 (K + 1) 2 = wb_one (wp_c3 K) := rfl
    rw [e]
    exact tt_one (rp := none) (fun _ => rfl) (fun h => absurd h (by omega)) (tb_c3 K 0 (by omega) (by omega)) (tb_c3 K 2 (by omega) (by omega))
  | succ d ih =>
    intro hd K hK
    obtain ⟨K, rfl⟩ : ∃ j, K = j + 1 := ⟨K - 1, by omega⟩
    have e : wp_c3 (K + 1) 2 = wb_one (wp_c3 K) := rfl
    rw [e]
    have ih' := ih (by omega)
    rw [show 9 - d = 9 - (d + 1) + 1 by omega] at ih'
    exact tt_one (rp := some (pO bs d)) (fun h => absurd h (by omega)) (fun _ => ⟨pO bs d, rfl, ih' K (by omega), tt_condK ih' (pO_pg d) (by omega) K (by omega), pO_pg d⟩) (tb_c3 K 0 (by omega) (by omega)) (tb_c3 K 2 (by omega) (by omega))
/-- a condition after if: d levels are left -/
theorem tt_cond {c : Nat} {σ0 : TS} {bs : List Nat} {d t : Nat} (hd : d ≤ 9) : SPk c σ0 bs (9 - d) t (pCondB bs (pO bs d)) (wp_c3 d_c3 0) := tt_condK (tt_c3 d hd) (pO_pg d) (by omega) d_c3 (by show 3 * d + 4 + 2 ≤ 41; omega)
