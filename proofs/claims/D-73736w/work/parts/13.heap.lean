/-! The heap of the component: cells by address, the next address; rows over it -/
set_option maxRecDepth 100000
/-- a cell: an object (class number, fields) or an array (kind 0 int 1 long 2 boolean 3 byte 4 char 5 short 6 Object 7 char[], length, contents) -/
abbrev HE : Type := (Nat × List Value) ⊕ (Nat × Nat × ((Nat → Int32) ⊕ (Nat → Int64) ⊕ (Nat → Option Nat)))
abbrev HS : Type := (Nat → Option HE) × Nat
def ob (c : Nat) (fs : List Value) : HE := .inl (c, fs)
def ai (t n : Nat) (g : Nat → Int32) : HE := .inr (t, n, .inl g)
def al (n : Nat) (g : Nat → Int64) : HE := .inr (1, n, .inr (.inl g))
def ar (t n : Nat) (g : Nat → Option Nat) : HE := .inr (t, n, .inr (.inr g))
theorem ob_inj {c c' : Nat} {fs fs' : List Value} : ob c fs = ob c' fs' ↔ c = c' ∧ fs = fs' := by simp [ob]
theorem ai_inj {t n t' n' : Nat} {g g' : Nat → Int32} : ai t n g = ai t' n' g' ↔ t = t' ∧ n = n' ∧ g = g' := by simp [ai]
theorem ar_inj {t n t' n' : Nat} {g g' : Nat → Option Nat} : ar t n g = ar t' n' g' ↔ t = t' ∧ n = n' ∧ g = g' := by simp [ar]
theorem va_rf_inj {r r' : Option Nat} : va_rf r = va_rf r' ↔ r = r' := by
  cases r <;> cases r' <;> simp [va_rf]
def hput (y : HS) (a : Nat) (e : HE) : HS := (va_up y.1 a (some e), y.2)
def hnew (y : HS) (e : HE) : HS := (va_up y.1 y.2 (some e), y.2 + 1)
def aval (x : (Nat → Int32) ⊕ (Nat → Int64) ⊕ (Nat → Option Nat)) (j : Nat) : Value := match x with
  | .inl g => .int (g j)
  | .inr (.inl g) => .long (g j)
  | .inr (.inr g) => va_rf (g j)
/-- the cell e stands at a -/
def hat (G : GP) (a : Nat) (e : HE) (H : Heap) : Prop := match e with
  | .inl o => ∃ r : vw_C, gcl[o.1]? = some r ∧ t_OB a ((gD G).1 o.1) r.2.2 ((gD G).2 o.1) H (vp_V o.2)
  | .inr x => H[a]? = some (arrV (gA G x.1) x.2.1 (aval x.2.2))
theorem hat.kept {G : GP} {a : Nat} {e : HE} {H H1 : Heap} (h : hat G a e H) (hq : H1[a]? = H[a]?) : hat G a e H1 := by
  cases e with
  | inl o =>
    obtain ⟨r, h1, h2⟩ := h
    exact ⟨r, h1, h2.kept hq⟩
  | inr x => exact hq.trans h
theorem hat.lt {G : GP} {a : Nat} {e : HE} {H : Heap} (h : hat G a e H) : a < H.size := by
  cases e with
  | inl o =>
    obtain ⟨r, h1, cell, h2, -⟩ := h
    exact (Array.getElem?_eq_some_iff.mp h2).1
  | inr x => exact (Array.getElem?_eq_some_iff.mp h).1
def Abs (G : GP) (y : HS) (H : Heap) : Prop := H.size = y.2 ∧ (gH G).size ≤ y.2 ∧ ∀ a e, y.1 a = some e → hat G a e H ∧ (gH G).size ≤ a
/-- what a call that starts at y may change -/
def HA (y : HS) : Nat → Prop := fun q => y.1 q ≠ none ∨ y.2 ≤ q
/-- what holds all along a method that started at y0, now at y -/
def HI (G : GP) (y0 y : HS) (s : State) (H : Heap) (locs : List Loc) : Prop := Abs G y H ∧ (∀ a, y.1 a ≠ none → HA y0 a) ∧ va_S (HA y0) s.heap H locs ∧ y0.2 ≤ y.2 ∧ ∀ q, HA y0 q → (gH G).size ≤ q
theorem HI.start {G : GP} {y : HS} {s : State} (h : Abs G y s.heap) : HI G y y s s.heap [] := by
  refine ⟨h, fun a ha => Or.inl ha, va_S.rf, Nat.le_refl _, fun q hq => ?_⟩
  rcases hq with hq | hq
  · cases he : y.1 q with
    | none => exact absurd he hq
    | some e => exact (h.2.2 q e he).2
  · exact Nat.le_trans h.2.1 hq
theorem HI.put {G : GP} {y0 y : HS} {s : State} {H H1 : Heap} {locs : List Loc} {a k : Nat} {e0 e : HE} (h : HI G y0 y s H locs) (h0 : y.1 a = some e0) (he : hat G a e H1) (z : H1.size = H.size) (oq : ∀ q : Nat, q ≠ a → H1[q]? = H[q]?) : HI G y0 (hput y a e) s H1 (locs ++ [⟨a, k⟩]) := by
  obtain ⟨⟨a1, a2, a3⟩, b, c, d, f⟩ := h
  have hA : HA y0 a := b a (by rw [h0]; exact fun z => by cases z)
  refine ⟨⟨by rw [z]; exact a1, a2, fun q e' hq => ?_⟩, fun q hq => ?_, c.put z oq hA, d, f⟩
  · by_cases hqa : q = a
    · subst hqa
      have : e = e' := by simpa [hput, va_up] using hq
      subst this
      exact ⟨he, (a3 q e0 h0).2⟩
    · have h1 : y.1 q = some e' := by simpa [hput, va_up, hqa] using hq
      exact ⟨(a3 q e' h1).1.kept (oq q hqa), (a3 q e' h1).2⟩
  · by_cases hqa : q = a
    · subst hqa; exact hA
    · exact b q (by simpa [hput, va_up, hqa] using hq)
theorem HI.new {G : GP} {y0 y : HS} {s : State} {H H1 : Heap} {locs : List Loc} {e : HE} (h : HI G y0 y s H locs) (he : hat G y.2 e H1) (z : H1.size = H.size + 1) (oq : ∀ q : Nat, q < H.size → H1[q]? = H[q]?) : HI G y0 (hnew y e) s H1 locs := by
  obtain ⟨⟨a1, a2, a3⟩, b, c, d, f⟩ := h
  refine ⟨⟨by rw [z, a1]; rfl, Nat.le_succ_of_le a2, fun q e' hq => ?_⟩, fun q hq => ?_, ⟨by have := c.1; omega, fun q h1 h2 => ?_, c.2.2⟩, Nat.le_succ_of_le d, f⟩
  · by_cases hqa : q = y.2
    · subst hqa
      have : e = e' := by simpa [hnew, va_up] using hq
      subst this
      exact ⟨he, a2⟩
    · have h1 : y.1 q = some e' := by simpa [hnew, va_up, hqa] using hq
      exact ⟨(a3 q e' h1).1.kept (oq q (a3 q e' h1).1.lt), (a3 q e' h1).2⟩
  · by_cases hqa : q = y.2
    · subst hqa; exact Or.inr d
    · exact b q (by simpa [hnew, va_up, hqa] using hq)
  · rw [oq q (Nat.lt_of_lt_of_le h1 c.1)]
    exact c.2.1 q h1 h2
/-- behind a call -/
theorem HI.join {G : GP} {y0 y y1 : HS} {s : State} {H H1 : Heap} {locs locs1 : List Loc} (h : HI G y0 y s H locs) (h1 : Abs G y1 H1) (h2 : ∀ a, y1.1 a ≠ none → HA y a) (h3 : H.size ≤ H1.size) (h4 : va_S (HA y0) s.heap H1 locs1) : HI G y0 y1 s H1 locs1 := by
  obtain ⟨⟨a1, a2, a3⟩, b, c, d, f⟩ := h
  refine ⟨h1, fun q hq => ?_, h4, by have := h1.1; omega, f⟩
  rcases h2 q hq with z | z
  · exact b q z
  · exact Or.inr (by omega)
/-! constants of the start's heap -/
def hcon (G : GP) (a : Nat) (e : HE) : Prop := (∃ i, i < 20 ∧ a = gK G i ∧ e = ob 20 [va_rf (some (gV G i)), .int 0, .int (whT.getD i 0), .int 0]) ∨ (∃ i, i < 20 ∧ a = gV G i ∧ e = ai 3 (wd i).length (fun j => nI ((wd i).getD j 0))) ∨ (∃ k, k < 256 ∧ a = gI G k ∧ e = ob 21 [.int (vb_c k)]) ∨ (∃ k, k < 128 ∧ a = gC G k ∧ e = ob 22 [.int (nI k)]) ∨ (a = gE G 0 ∧ e = ar 6 0 (fun _ => none))
/-- what can be read at a -/
def rd (G : GP) (y : HS) (a : Nat) (e : HE) : Prop := y.1 a = some e ∨ hcon G a e
def hrd (G : GP) (a : Nat) (e : HE) (H : Heap) : Prop := ∃ cell : Cell, H[a]? = some cell ∧ cell.vm ≠ .unknown ∧ cell.vm.isStatics = false ∧ match e with
  | .inl o => cell.cls = (gD G).1 o.1 ∧ ∀ (r : vw_C) (k : Nat) (v : Value), gcl[o.1]? = some r → k < r.2.2 → o.2[k]? = some v → cell.slots[(gD G).2 o.1 k]? = some v
  | .inr x => cell.cls = gA G x.1 ∧ cell.slots.size = x.2.1 ∧ ∀ j : Nat, j < x.2.1 → cell.slots[j]? = some (aval x.2.2 j)
theorem hrd_at {G : GP} {a : Nat} {e : HE} {H : Heap} (h : hat G a e H) : hrd G a e H := by
  cases e with
  | inl o =>
    obtain ⟨r, h1, cell, h2, h3, h4, h5⟩ := h
    refine ⟨cell, h2, (by rw [h4]; exact fun z => by cases z), (by rw [h4]; rfl), h3, fun r' k v hr hk hv => ?_⟩
    cases Option.some.inj (h1.symm.trans hr)
    rw [h5 k hk]
    simp [vp_V, hv]
  | inr x => exact ⟨_, h, (fun z => by cases z), rfl, rfl, arrV_size _ _ _, fun j hj => arrV_read _ _ hj⟩
theorem hrd_con {G : GP} {a : Nat} {e : HE} {H : Heap} (hC : GC G) (ho : ∀ q : Nat, q < (gH G).size → H[q]? = (gH G)[q]?) (h : hcon G a e) : hrd G a e H := by
  have lt : ∀ {q : Nat} {cell : Cell}, (gH G)[q]? = some cell → H[q]? = some cell := fun {q} {cell} hq => by rw [ho q (Array.getElem?_eq_some_iff.mp hq).1]; exact hq
  rcases h with ⟨i, hi, rfl, rfl⟩ | ⟨i, hi, rfl, rfl⟩ | ⟨k, hk, rfl, rfl⟩ | ⟨k, hk, rfl, rfl⟩ | ⟨rfl, rfl⟩
  · obtain ⟨cell, h1, h2, h3, h4, h5⟩ := (hC.1 i hi).1
    exact ⟨cell, lt h1, h3, h4, h2, fun r k v _ _ hv => h5 k v hv⟩
  · obtain ⟨cell, h1, h2, h3, h4, h5, h6⟩ := (hC.1 i hi).2
    exact ⟨cell, lt h1, h3, h4, h2, h5, h6⟩
  · obtain ⟨cell, h1, h2, h3, h4, h5⟩ := hC.2.1 k hk
    exact ⟨cell, lt h1, h3, h4, h2, fun r k v _ _ hv => h5 k v hv⟩
  · obtain ⟨cell, h1, h2, h3, h4, h5⟩ := hC.2.2.1 k hk
    exact ⟨cell, lt h1, h3, h4, h2, fun r k v _ _ hv => h5 k v hv⟩
  · obtain ⟨cell, h1, h2, h3, h4, h5, h6⟩ := hC.2.2.2
    exact ⟨cell, lt h1, h3, h4, h2, h5, fun j hj => absurd hj (Nat.not_lt_zero j)⟩
theorem HI.old {G : GP} {y0 y : HS} {s : State} {H : Heap} {locs : List Loc} (hK : Kn G s) (h : HI G y0 y s H locs) : ∀ q : Nat, q < (gH G).size → H[q]? = (gH G)[q]? := by
  intro q hq
  have h1 := hK.2.1 q hq
  have hl : q < s.heap.size := by
    by_cases hl : q < s.heap.size
    · exact hl
    · rw [Array.getElem?_eq_none (by omega), Array.getElem?_eq_getElem hq] at h1
      cases h1
  rw [h.2.2.1.2.1 q hl (fun z => by have := h.2.2.2.2 q z; omega)]
  exact h1
theorem HI.rd {G : GP} {y0 y : HS} {s : State} {H : Heap} {locs : List Loc} {a : Nat} {e : HE} (hK : Kn G s) (h : HI G y0 y s H locs) (hr : rd G y a e) : hrd G a e H := by
  rcases hr with hr | hr
  · exact hrd_at (h.1.2.2 a e hr).1
  · exact hrd_con hK.2.2.2.1 (h.old hK) hr
theorem HI.kn {G : GP} {y0 y : HS} {s U : State} {H : Heap} {locs : List Loc} (hK : Kn G s) (h : HI G y0 y s H locs) (hU : U.heap = H) (hW : s.WarmedH U.vm) : Kn G U := hK.next h.2.2.2.2 h.2.2.1 hU hW
/-- a class: its number, its words -/
def CI (ci : Nat) (C : String) (T : u_T) (N : Nat) (ty : Nat → FieldType) : Prop := gcl[ci]? = some (C, T, N) ∧ (∀ w ∈ u_ws C T N, w ∈ lw_all) ∧ (∀ k, k < N → parseFieldDescriptor (T k).2.2.1 = some (ty k)) ∧ ∀ a, a < N → ∀ b, b < N → a ≠ b → (T a).2.1 ≠ (T b).2.1
/-- class names by number -/
def cnm (c : Nat) : String := (gcl.getD c ("", fun _ => ("", "", "", false), 0)).1
theorem hrd.recv {G : GP} {s : State} {H : Heap} {a ci : Nat} {fs : List Value} (hK : Kn G s) (h : hrd G a (ob ci fs) H) (C : String) (T : u_T) (N : Nat) (hc : gcl[ci]? = some (C, T, N)) : ∃ cell : Cell, H[a]? = some cell ∧ cell.vm.isStatics = false ∧ s.vm.findClass C = some cell.cls := by
  obtain ⟨cell, h1, h2, h3, h4, -⟩ := h
  exact ⟨cell, h1, h3, by rw [h4]; exact (hK.1.1 ci _ hc).2.1⟩
/-- a method's start and end -/
abbrev hPc (G : GP) (y : HS) (av : List Value) : Array Value → State → Prop := va_Pc av (fun U => Kn G U ∧ Abs G y U.heap)
abbrev hB (G : GP) (y0 : HS) : HS → State → Prop := fun y t => Abs G y t.heap ∧ ∀ a, y.1 a ≠ none → HA y0 a
abbrev hX (G : GP) (y0 : HS) (xp : Nat → Nat → HS → Prop) : Addr → String → State → State → Prop := vx_X (S := HS × Nat × Nat) (fun u => xp u.2.1 u.2.2 u.1) (fun q E u t => q = u.2.2 ∧ E = cnm u.2.1 ∧ hB G y0 u.1 t) (HA y0)
abbrev hQi (G : GP) (y0 : HS) (post : Int32 → HS → Prop) : Array Value → State → Outcome → State → Prop := va_Qi post (hB G y0) (HA y0)
abbrev hQz (G : GP) (y0 : HS) (post : Bool → HS → Prop) : Array Value → State → Outcome → State → Prop := va_Qi (fun r y => ∃ b, r = bi b ∧ post b y) (hB G y0) (HA y0)
abbrev hQv (G : GP) (y0 : HS) (post : HS → Prop) : Array Value → State → Outcome → State → Prop := va_Qv post (hB G y0) (HA y0)
abbrev hQq (G : GP) (y0 : HS) (post : Option Nat → HS → Prop) : Array Value → State → Outcome → State → Prop := va_Qq post (hB G y0) (HA y0)
theorem hPc.blind {G : GP} {y : HS} {av : List Value} : FrameBlind (hPc G y av) := by
  intro a U g mk h
  obtain ⟨h1, hK, hW⟩ := h
  exact ⟨h1, hK.call, hW⟩
abbrev rmB (d B : Nat) : Room := rmd d B (20 * B)
theorem hv_met {l : Launch} {G : GP} {y : MethodName} {own : String} {cc : ByteArray} {maxL D B : Nat} {ret : Option FieldType} {av : List Value} {y0 : HS} {Qc : Array Value → State → Outcome → State → Prop} {XC : Addr → String → State → State → Prop} (hy : plainName y.cls = true) (hcls : y.cls = own) (hn : (lg_sl av).length ≤ maxL)
    (body : ∀ (p : Program) (e : Env) (s : State) (m : MethodId) (args : Array Value) (below : List Frame) (meth : Method) (c : Code) (ls : Array Slot), CallFix p m c cc maxL s args lw_all own → meth.sig.returnType = ret → meth.locks = false → meth.name = y.name → (∀ x ∈ c.exceptionTable.toList, False) → Kn G s → HI G y0 y0 s s.heap [] → lv_has ls maxL (lv_args 0 av) → W p l e (rmB D B) s m args below meth c s.heap [] 0 0 (vx_MQ below Qc XC args s B (20 * B) (HA y0)) (F0 m 0 ls [])) :
    vx_Met l y (ws_ y cc maxL ret) (rmB D B) (hPc G y0 av) Qc XC B (20 * B) (HA y0) := by
  refine vx_ofW (cc := cc) (maxL := maxL) (ret := ret) hy rfl ?_
  intro p e s m args below meth c s₁ B hml ht hv
  obtain ⟨ha, hK, hT⟩ := hv
  have hts := atoms_spec (ws := ws_ y cc maxL ret) B.pre
  have hts : ∀ w ∈ lw_all, w.before args s = true := fun w h => hts w (List.mem_cons_of_mem _ h)
  have hown : s.vm.findClass own = some m.cls := by rw [← hcls]; exact findClass_of_methodNamed B.named
  have hl := lv_entry av (n := maxL) hn
  refine W.eq (g2 := F0 m 0 ((lg_sl av ++ List.replicate (maxL - (lg_sl av).length) Slot.unset).toArray) []) (by rw [ha]; exact lg_entry_eq m av maxL) ?_
  exact body p e s m args below meth c _ ⟨B.exec, B.bytes, hml, hown, hts⟩ B.returns B.notSynchronized (name_of_methodNamed B.named B.method).1 ht hK (HI.start hT) hl
section HVR
variable {p : Program} {l : Launch} {e : Env} {R : Room} {s : State} {m : MethodId} {args : Array Value} {below : List Frame} {meth : Method} {c : Code} {H : Heap} {locs : List Loc} {cells slots : Nat} {Q : State → Prop}
variable {cc bytes : ByteArray} {pc nL maxL n index : Nat} {ls : Array Slot} {rest st0 As : List Value} {G : GP} {y0 y : HS} {own : String}
/-- a field is read (the link's word in all) -/
theorem hv_get {ci N a : Nat} {C ref : String} {T : u_T} {ty : Nat → FieldType} {fs : List Value} {v : Value} (E : CallFix p m c cc nL s args lw_all own) (hK : Kn G s) (hI : HI G y0 y s H locs) (K : CI ci C T N ty) (k : Nat) (hk : k < N) (hl : Cond.fieldLink own index ref (T k).2.1 (T k).2.2.1 ∈ lw_all) (hsame : ∀ x, s.fieldFound? (T k).1 (T k).2.1 (T k).2.2.1 = some x → s.fieldFound? ref (T k).2.1 (T k).2.2.1 = some x) (hr : rd G y a (ob ci fs)) (hv : fs[k]? = some v) (hdg : decode cc pc = .ok (.getfield index, 3))
    (kk : W p l e R s m args below meth c H locs cells slots Q (F0 m (pc + 3) ls (v :: rest))) : W p l e R s m args below meth c H locs cells slots Q (F0 m pc ls (.ref a :: rest)) := by
  obtain ⟨hx, hb, -, hown, hts⟩ := E
  obtain ⟨cell, h1, h2, h3, h4, h5⟩ := hI.rd hK hr
  obtain ⟨hS, hfc, kC, hkC, hkind⟩ := hK.1.1 ci (C, T, N) K.1
  obtain ⟨cf, kf, fi, f, hi, hsl⟩ := hS k hk
  have hst := (u_facts hfc hkC (u_lays hts K.2.1 hk) hi).1
  refine W.getf hx hb hown (hts _ hl) (hsame _ hi) hst h1 h2 (v := v) ?_ rfl rfl hdg kk
  rw [hsl]
  exact h5 _ k v K.1 hk hv
/-- a nest mate's field is read -/
theorem hv_getN {ci N a : Nat} {C ref host : String} {T : u_T} {ty : Nat → FieldType} {fs : List Value} {v : Value} (E : CallFix p m c cc nL s args lw_all own) (hK : Kn G s) (hI : HI G y0 y s H locs) (K : CI ci C T N ty) (k : Nat) (hk : k < N) (hl : Cond.fieldLinkNest own index ref (T k).2.1 (T k).2.2.1 host ∈ lw_tbl) (hsame : ∀ x, s.fieldFound? (T k).1 (T k).2.1 (T k).2.2.1 = some x → s.fieldFound? ref (T k).2.1 (T k).2.2.1 = some x) (hr : rd G y a (ob ci fs)) (hv : fs[k]? = some v) (hdg : decode cc pc = .ok (.getfield index, 3))
    (kk : W p l e R s m args below meth c H locs cells slots Q (F0 m (pc + 3) ls (v :: rest))) : W p l e R s m args below meth c H locs cells slots Q (F0 m pc ls (.ref a :: rest)) := by
  obtain ⟨hx, hb, -, hown, hts⟩ := E
  obtain ⟨cell, h1, h2, h3, h4, h5⟩ := hI.rd hK hr
  obtain ⟨hS, hfc, kC, hkC, hkind⟩ := hK.1.1 ci (C, T, N) K.1
  obtain ⟨cf, kf, fi, f, hi, hsl⟩ := hS k hk
  have hst := (u_facts hfc hkC (u_lays hts K.2.1 hk) hi).1
  refine va_Wgetf hx hb hown ((hK.2.2.2.2.1 _ hl rfl).use rfl) (hsame _ hi) hst h1 h2 (v := v) ?_ rfl rfl hdg kk
  rw [hsl]
  exact h5 _ k v K.1 hk hv
theorem hv_put_aux {ci N a : Nat} {C : String} {T : u_T} {ty : Nat → FieldType} {fs : List Value} {v : Value} {H1 : Heap} {cell : Cell} (E : CallFix p m c cc nL s args lw_all own) (hK : Kn G s) (hI : HI G y0 y s H locs) (K : CI ci C T N ty) (k : Nat) (hk : k < N) (hr : y.1 a = some (ob ci fs)) (hl : k < fs.length) (q2 : cell.cls = (gD G).1 ci) (q3 : cell.vm = .none) (q4 : ∀ k, k < N → cell.slots[(gD G).2 ci k]? = some (vp_V fs k)) (e1 : H1[a]? = some (cell.setSlot ((gD G).2 ci k) v)) (e2 : H1.size = H.size) (e3 : ∀ q : Nat, q ≠ a → H1[q]? = H[q]?) : HI G y0 (hput y a (ob ci (fs.set k v))) s H1 (locs ++ [⟨a, (gD G).2 ci k⟩]) := by
  have hap := va_apart (own := own) (D := gD G) (cl := gcl) (tys := gty G) (s := s) (ci := ci) E.2.2.2.2 K.2.1 ty K.2.2.1 K.2.2.2 hK.1 K.1
  exact hI.put hr ⟨_, K.1, t_OB.to (V := updV (vp_V fs) k v) ⟨_, e1, q2, q3, t_set q4 hap hk v⟩ (fun j _ => vp_updV_set hl v j)⟩ e2 e3
/-- a field is written -/
theorem hv_put {ci N a : Nat} {C ref : String} {T : u_T} {ty : Nat → FieldType} {fs : List Value} {v : Value} (E : CallFix p m c cc nL s args lw_all own) (hK : Kn G s) (hI : HI G y0 y s H locs) (K : CI ci C T N ty) (k : Nat) (hk : k < N) (hl : Cond.fieldLink own index ref (T k).2.1 (T k).2.2.1 ∈ lw_all) (hsame : ∀ x, s.fieldFound? (T k).1 (T k).2.1 (T k).2.2.1 = some x → s.fieldFound? ref (T k).2.1 (T k).2.2.1 = some x) (hfin : (T k).2.2.2 = false) (hn : narrow (ty k) v = v) (hfit : fits (ty k) v = true) (hr : y.1 a = some (ob ci fs)) (hlen : k < fs.length) (hdg : decode cc pc = .ok (.putfield index, 3))
    (kk : ∀ (H1 : Heap) (locs1 : List Loc), HI G y0 (hput y a (ob ci (fs.set k v))) s H1 locs1 → W p l e R s m args below meth c H1 locs1 cells slots Q (F0 m (pc + 3) ls rest)) : W p l e R s m args below meth c H locs cells slots Q (F0 m pc ls (v :: .ref a :: rest)) := by
  have hp := fun H1 cell => hv_put_aux (H1 := H1) (cell := cell) (v := v) E hK hI K k hk hr hlen
  obtain ⟨hx, hb, -, hown, hts⟩ := E
  obtain ⟨r, hr1, cell, q1, q2, q3, q4⟩ := (hI.1.2.2 a _ hr).1
  cases Option.some.inj (K.1.symm.trans hr1)
  obtain ⟨hS, hfc, kC, hkC, hkind⟩ := hK.1.1 ci (C, T, N) K.1
  obtain ⟨cf, kf, fi, f, hi, hsl⟩ := hS k hk
  have hlay := hts _ (K.2.1 _ (u_in_lay hk))
  unfold u_lay at hlay
  rw [if_neg (by rw [hfin]; decide)] at hlay
  have hst := (u_facts hfc hkC (u_lays hts K.2.1 hk) hi).1
  have h6 := u_store hfc hkC hkind hlay hi (K.2.2.1 k hk) hn hfit
  refine W.putK hx hb (f := f) ⟨hown, hts _ hl, ⟨_, _, _, hsame _ hi⟩, hst⟩ (by rw [q2]; exact h6) q1 q3 (by rw [hsl]; exact k2_hasslot (q4 k hk)) rfl rfl hdg fun H' e1 e2 e3 => ?_
  rw [hsl] at e1 ⊢
  exact kk H' _ (hp H' cell q2 q3 q4 e1 e2 e3)
theorem hv_putN {ci N a : Nat} {C ref host : String} {T : u_T} {ty : Nat → FieldType} {fs : List Value} {v : Value} (E : CallFix p m c cc nL s args lw_all own) (hK : Kn G s) (hI : HI G y0 y s H locs) (K : CI ci C T N ty) (k : Nat) (hk : k < N) (hl : Cond.fieldLinkNest own index ref (T k).2.1 (T k).2.2.1 host ∈ lw_tbl) (hsame : ∀ x, s.fieldFound? (T k).1 (T k).2.1 (T k).2.2.1 = some x → s.fieldFound? ref (T k).2.1 (T k).2.2.1 = some x) (hfin : (T k).2.2.2 = false) (hn : narrow (ty k) v = v) (hfit : fits (ty k) v = true) (hr : y.1 a = some (ob ci fs)) (hlen : k < fs.length) (hdg : decode cc pc = .ok (.putfield index, 3))
    (kk : ∀ (H1 : Heap) (locs1 : List Loc), HI G y0 (hput y a (ob ci (fs.set k v))) s H1 locs1 → W p l e R s m args below meth c H1 locs1 cells slots Q (F0 m (pc + 3) ls rest)) : W p l e R s m args below meth c H locs cells slots Q (F0 m pc ls (v :: .ref a :: rest)) := by
  have hp := fun H1 cell => hv_put_aux (H1 := H1) (cell := cell) (v := v) E hK hI K k hk hr hlen
  obtain ⟨hx, hb, -, hown, hts⟩ := E
  obtain ⟨r, hr1, cell, q1, q2, q3, q4⟩ := (hI.1.2.2 a _ hr).1
  cases Option.some.inj (K.1.symm.trans hr1)
  obtain ⟨hS, hfc, kC, hkC, hkind⟩ := hK.1.1 ci (C, T, N) K.1
  obtain ⟨cf, kf, fi, f, hi, hsl⟩ := hS k hk
  have hlay := hts _ (K.2.1 _ (u_in_lay hk))
  unfold u_lay at hlay
  rw [if_neg (by rw [hfin]; decide)] at hlay
  have hst := (u_facts hfc hkC (u_lays hts K.2.1 hk) hi).1
  have h6 := u_store hfc hkC hkind hlay hi (K.2.2.1 k hk) hn hfit
  refine va_WputK hx hb (f := f) hown ((hK.2.2.2.2.1 _ hl rfl).use rfl) (hsame _ hi) hst (by rw [q2]; exact h6) q1 q3 (by rw [hsl]; exact k2_hasslot (q4 k hk)) rfl rfl hdg fun H' e1 e2 e3 => ?_
  rw [hsl] at e1 ⊢
  exact kk H' _ (hp H' cell q2 q3 q4 e1 e2 e3)
/-- a final field is written, in the constructor -/
theorem hv_putF {ci N a : Nat} {C ref : String} {T : u_T} {ty : Nat → FieldType} {fs : List Value} {v : Value} (E : CallFix p m c cc nL s args lw_all own) (hK : Kn G s) (hI : HI G y0 y s H locs) (K : CI ci C T N ty) (k : Nat) (hk : k < N) (hl : Cond.fieldLink own index ref (T k).2.1 (T k).2.2.1 ∈ lw_all) (hsame : ∀ x, s.fieldFound? (T k).1 (T k).2.1 (T k).2.2.1 = some x → s.fieldFound? ref (T k).2.1 (T k).2.2.1 = some x) (hfin : (T k).2.2.2 = true) (hin2 : meth.name = "<init>") (hdecl : (T k).1 = own) (hn : narrow (ty k) v = v) (hfit : fits (ty k) v = true) (hr : y.1 a = some (ob ci fs)) (hlen : k < fs.length) (hdg : decode cc pc = .ok (.putfield index, 3))
    (kk : ∀ (H1 : Heap) (locs1 : List Loc), HI G y0 (hput y a (ob ci (fs.set k v))) s H1 locs1 → W p l e R s m args below meth c H1 locs1 cells slots Q (F0 m (pc + 3) ls rest)) : W p l e R s m args below meth c H locs cells slots Q (F0 m pc ls (v :: .ref a :: rest)) := by
  have hp := fun H1 cell => hv_put_aux (H1 := H1) (cell := cell) (v := v) E hK hI K k hk hr hlen
  obtain ⟨hx, hb, -, hown, hts⟩ := E
  obtain ⟨r, hr1, cell, q1, q2, q3, q4⟩ := (hI.1.2.2 a _ hr).1
  cases Option.some.inj (K.1.symm.trans hr1)
  obtain ⟨hS, hfc, kC, hkC, hkind⟩ := hK.1.1 ci (C, T, N) K.1
  obtain ⟨cf, kf, fi, f, hi, hsl⟩ := hS k hk
  have hlay := hts _ (K.2.1 _ (u_in_lay hk))
  unfold u_lay at hlay
  rw [if_pos hfin] at hlay
  have hst := (u_facts hfc hkC (u_lays hts K.2.1 hk) hi).1
  have hcf : m.cls = cf := by
    obtain ⟨_, _, c', _, _, _, -, -, hf', -, -, -, hown2, -⟩ := Cond.laysFinal_spec hlay
    have e1 : c' = cf := by have := hi.symm.trans hf'; simp at this; exact this.1.symm
    rw [hdecl] at hown2
    rw [← e1]; exact Option.some.inj (hown.symm.trans hown2)
  have h6 := u_fits hfc hkC hkind (Or.inr hlay) hi (K.2.2.1 k hk) hn hfit
  refine W.putFinK hx hb hown (hts _ hl) (hsame _ hi) hst hcf hin2 (by rw [q2]; exact h6) q1 q3 (by rw [hsl]; exact k2_hasslot (q4 k hk)) rfl rfl hdg fun H' e1 e2 e3 => ?_
  rw [hsl] at e1 ⊢
  exact kk H' _ (hp H' cell q2 q3 q4 e1 e2 e3)
theorem gt_arr {a t k : Nat} {x : (Nat → Int32) ⊕ (Nat → Int64) ⊕ (Nat → Option Nat)} {ty : FieldType} (hK : Kn G s) (ht : (gty G)[t]? = some (gA G t, ty)) (h : hrd G a (.inr (t, k, x)) H) : ∃ cell : Cell, H[a]? = some cell ∧ s.isArrayOf cell ty ∧ cell.vm ≠ .unknown ∧ cell.slots.size = k ∧ (∀ j : Nat, j < k → cell.slots[j]? = some (aval x j)) ∧ cell.vm.isStatics = false := by
  obtain ⟨cell, h1, h2, h3, h4, h5, h6⟩ := h
  have := (hK.1.2 t _ ht).1 0 (fun _ => .null)
  obtain ⟨-, kA, hk, comp, hkind⟩ := this
  refine ⟨cell, h1, ⟨fun q hq => ?_, kA, ?_, comp, hkind⟩, h2, h5, h6, h3⟩
  · rw [hq] at h3; cases h3
  · show s.vm.classes[cell.cls]? = some kA
    rw [h4]; exact hk
/-- ints out of an array -/
theorem hv_iald {a k : Nat} {g : Nat → Int32} {i : Int32} (E : CallFix p m c cc nL s args lw_all own) (hK : Kn G s) (hI : HI G y0 y s H locs) (hr : rd G y a (ai 0 k g)) (hin : vp_in i k) (hdg : decode cc pc = .ok (.iaload, 1))
    (kk : W p l e R s m args below meth c H locs cells slots Q (F0 m (pc + 1) ls (.int (g i.toNatClampNeg) :: rest))) : W p l e R s m args below meth c H locs cells slots Q (F0 m pc ls (.int i :: .ref a :: rest)) := by
  obtain ⟨cell, h1, h2, h3, h4, h5, -⟩ := gt_arr hK rfl (hI.rd hK hr)
  exact W.iald (v := .int (g i.toNatClampNeg)) E.1 E.2.1 h1 h2 h3 (by rw [h4]; exact hin) (h5 _ (Nat.not_le.mp fun q => hin (Or.inr q))) rfl rfl hdg kk
theorem hv_bald {a k : Nat} {g : Nat → Int32} {i : Int32} (E : CallFix p m c cc nL s args lw_all own) (hK : Kn G s) (hI : HI G y0 y s H locs) (hr : rd G y a (ai 3 k g)) (hin : vp_in i k) (hdg : decode cc pc = .ok (.baload, 1))
    (kk : W p l e R s m args below meth c H locs cells slots Q (F0 m (pc + 1) ls (.int (g i.toNatClampNeg) :: rest))) : W p l e R s m args below meth c H locs cells slots Q (F0 m pc ls (.int i :: .ref a :: rest)) := by
  obtain ⟨cell, h1, h2, h3, h4, h5, -⟩ := gt_arr hK rfl (hI.rd hK hr)
  exact W.bald (v := .int (g i.toNatClampNeg)) E.1 E.2.1 h1 h2 h3 (by rw [h4]; exact hin) (h5 _ (Nat.not_le.mp fun q => hin (Or.inr q))) rfl rfl hdg kk
theorem hv_cald {a k : Nat} {g : Nat → Int32} {i : Int32} (E : CallFix p m c cc nL s args lw_all own) (hK : Kn G s) (hI : HI G y0 y s H locs) (hr : rd G y a (ai 4 k g)) (hin : vp_in i k) (hdg : decode cc pc = .ok (.caload, 1))
    (kk : W p l e R s m args below meth c H locs cells slots Q (F0 m (pc + 1) ls (.int (g i.toNatClampNeg) :: rest))) : W p l e R s m args below meth c H locs cells slots Q (F0 m pc ls (.int i :: .ref a :: rest)) := by
  obtain ⟨cell, h1, h2, h3, h4, h5, -⟩ := gt_arr hK rfl (hI.rd hK hr)
  exact W.cald (v := .int (g i.toNatClampNeg)) E.1 E.2.1 h1 h2 h3 (by rw [h4]; exact hin) (h5 _ (Nat.not_le.mp fun q => hin (Or.inr q))) rfl rfl hdg kk
theorem hv_sald {a k : Nat} {g : Nat → Int32} {i : Int32} (E : CallFix p m c cc nL s args lw_all own) (hK : Kn G s) (hI : HI G y0 y s H locs) (hr : rd G y a (ai 5 k g)) (hin : vp_in i k) (hdg : decode cc pc = .ok (.saload, 1))
    (kk : W p l e R s m args below meth c H locs cells slots Q (F0 m (pc + 1) ls (.int (g i.toNatClampNeg) :: rest))) : W p l e R s m args below meth c H locs cells slots Q (F0 m pc ls (.int i :: .ref a :: rest)) := by
  obtain ⟨cell, h1, h2, h3, h4, h5, -⟩ := gt_arr hK rfl (hI.rd hK hr)
  exact W.sald (v := .int (g i.toNatClampNeg)) E.1 E.2.1 h1 h2 h3 (by rw [h4]; exact hin) (h5 _ (Nat.not_le.mp fun q => hin (Or.inr q))) rfl rfl hdg kk
/-- references out of an array (kind 6 or 7) -/
theorem hv_aald {a k t : Nat} {g : Nat → Option Nat} {i : Int32} {ty : FieldType} (E : CallFix p m c cc nL s args lw_all own) (hK : Kn G s) (hI : HI G y0 y s H locs) (hr : rd G y a (ar t k g)) (ht : (gty G)[t]? = some (gA G t, ty)) (hty : ty.isReference = true) (hin : vp_in i k) (hdg : decode cc pc = .ok (.aaload, 1))
    (kk : W p l e R s m args below meth c H locs cells slots Q (F0 m (pc + 1) ls (va_rf (g i.toNatClampNeg) :: rest))) : W p l e R s m args below meth c H locs cells slots Q (F0 m pc ls (.int i :: .ref a :: rest)) := by
  obtain ⟨cell, h1, h2, h3, h4, h5, -⟩ := gt_arr hK ht (hI.rd hK hr)
  exact W.aald (v := va_rf (g i.toNatClampNeg)) (ty := ty) E.1 E.2.1 h1 h2 hty h3 (by rw [h4]; exact hin) (h5 _ (Nat.not_le.mp fun q => hin (Or.inr q))) rfl rfl hdg kk
theorem hv_alen {a k t : Nat} {x : (Nat → Int32) ⊕ (Nat → Int64) ⊕ (Nat → Option Nat)} {ty : FieldType} (E : CallFix p m c cc nL s args lw_all own) (hK : Kn G s) (hI : HI G y0 y s H locs) (hr : rd G y a (.inr (t, k, x))) (ht : (gty G)[t]? = some (gA G t, ty)) (hdg : decode cc pc = .ok (.arraylength, 1))
    (kk : W p l e R s m args below meth c H locs cells slots Q (F0 m (pc + 1) ls (.int (nI k) :: rest))) : W p l e R s m args below meth c H locs cells slots Q (F0 m pc ls (.ref a :: rest)) := by
  obtain ⟨cell, h1, h2, h3, h4, h5, -⟩ := gt_arr hK ht (hI.rd hK hr)
  exact W.alen (n := nI k) E.1 E.2.1 h1 h2 (by rw [h4]; rfl) rfl rfl hdg kk
theorem ar_set {cA : ClassId} {k j : Nat} {g : Nat → Int32} {x : Int32} : (arrV cA k (aval (.inl g))).setSlot j (.int x) = arrV cA k (aval (.inl (upd g j x))) := by
  rw [arrV_store]
  congr 1
  funext q
  by_cases hq : q = j
  · subst hq; simp [updV, aval, upd]
  · simp [updV, aval, upd, hq]
theorem ar_setq {cA : ClassId} {k j : Nat} {g : Nat → Option Nat} {x : Option Nat} : (arrV cA k (aval (.inr (.inr g)))).setSlot j (va_rf x) = arrV cA k (aval (.inr (.inr (va_up g j x)))) := by
  rw [arrV_store]
  congr 1
  funext q
  by_cases hq : q = j
  · subst hq; simp [updV, aval, va_up]
  · simp [updV, aval, va_up, hq]
theorem hv_iast {a k : Nat} {g : Nat → Int32} {i x : Int32} (E : CallFix p m c cc nL s args lw_all own) (hK : Kn G s) (hI : HI G y0 y s H locs) (hr : y.1 a = some (ai 0 k g)) (hin : vp_in i k) (hdg : decode cc pc = .ok (.iastore, 1))
    (kk : ∀ (H1 : Heap) (locs1 : List Loc), HI G y0 (hput y a (ai 0 k (upd g i.toNatClampNeg x))) s H1 locs1 → W p l e R s m args below meth c H1 locs1 cells slots Q (F0 m (pc + 1) ls rest)) : W p l e R s m args below meth c H locs cells slots Q (F0 m pc ls (.int x :: .int i :: .ref a :: rest)) := by
  have hc : H[a]? = some (arrV (gA G 0) k (aval (.inl g))) := (hI.1.2.2 a _ hr).1
  refine W.iast E.1 E.2.1 hc ((hK.1.2 0 _ rfl).1 k (aval (.inl g))) (fun q => by cases q) (by show ¬ (i < 0 ∨ (arrV _ _ _).slots.size ≤ _); rw [arrV_size]; exact hin) rfl rfl hdg fun H1 e z oq => kk H1 _ (hI.put hr ?_ z oq)
  show H1[a]? = some (arrV (gA G 0) k (aval (.inl _)))
  rw [e, ar_set]
theorem hv_bast {a k : Nat} {g : Nat → Int32} {i x : Int32} (E : CallFix p m c cc nL s args lw_all own) (hK : Kn G s) (hI : HI G y0 y s H locs) (hr : y.1 a = some (ai 3 k g)) (hin : vp_in i k) (hdg : decode cc pc = .ok (.bastore, 1))
    (kk : ∀ (H1 : Heap) (locs1 : List Loc), HI G y0 (hput y a (ai 3 k (upd g i.toNatClampNeg (vp_nar .byte x)))) s H1 locs1 → W p l e R s m args below meth c H1 locs1 cells slots Q (F0 m (pc + 1) ls rest)) : W p l e R s m args below meth c H locs cells slots Q (F0 m pc ls (.int x :: .int i :: .ref a :: rest)) := by
  have hc : H[a]? = some (arrV (gA G 3) k (aval (.inl g))) := (hI.1.2.2 a _ hr).1
  refine W.bast E.1 E.2.1 hc ((hK.1.2 3 _ rfl).1 k (aval (.inl g))) (fun q => by cases q) (by show ¬ (i < 0 ∨ (arrV _ _ _).slots.size ≤ _); rw [arrV_size]; exact hin) rfl rfl hdg fun H1 e z oq => kk H1 _ (hI.put hr ?_ z oq)
  show H1[a]? = some (arrV (gA G 3) k (aval (.inl _)))
  rw [e, ← ar_set]
  rfl
theorem hv_cast {a k : Nat} {g : Nat → Int32} {i x : Int32} (E : CallFix p m c cc nL s args lw_all own) (hK : Kn G s) (hI : HI G y0 y s H locs) (hr : y.1 a = some (ai 4 k g)) (hin : vp_in i k) (hdg : decode cc pc = .ok (.castore, 1))
    (kk : ∀ (H1 : Heap) (locs1 : List Loc), HI G y0 (hput y a (ai 4 k (upd g i.toNatClampNeg (vp_nar .char x)))) s H1 locs1 → W p l e R s m args below meth c H1 locs1 cells slots Q (F0 m (pc + 1) ls rest)) : W p l e R s m args below meth c H locs cells slots Q (F0 m pc ls (.int x :: .int i :: .ref a :: rest)) := by
  have hc : H[a]? = some (arrV (gA G 4) k (aval (.inl g))) := (hI.1.2.2 a _ hr).1
  refine W.cast E.1 E.2.1 hc ((hK.1.2 4 _ rfl).1 k (aval (.inl g))) (fun q => by cases q) (by show ¬ (i < 0 ∨ (arrV _ _ _).slots.size ≤ _); rw [arrV_size]; exact hin) rfl rfl hdg fun H1 e z oq => kk H1 _ (hI.put hr ?_ z oq)
  show H1[a]? = some (arrV (gA G 4) k (aval (.inl _)))
  rw [e, ← ar_set]
  rfl
theorem hv_sast {a k : Nat} {g : Nat → Int32} {i x : Int32} (E : CallFix p m c cc nL s args lw_all own) (hK : Kn G s) (hI : HI G y0 y s H locs) (hr : y.1 a = some (ai 5 k g)) (hin : vp_in i k) (hdg : decode cc pc = .ok (.sastore, 1))
    (kk : ∀ (H1 : Heap) (locs1 : List Loc), HI G y0 (hput y a (ai 5 k (upd g i.toNatClampNeg (vp_nar .short x)))) s H1 locs1 → W p l e R s m args below meth c H1 locs1 cells slots Q (F0 m (pc + 1) ls rest)) : W p l e R s m args below meth c H locs cells slots Q (F0 m pc ls (.int x :: .int i :: .ref a :: rest)) := by
  have hc : H[a]? = some (arrV (gA G 5) k (aval (.inl g))) := (hI.1.2.2 a _ hr).1
  refine W.sast E.1 E.2.1 hc ((hK.1.2 5 _ rfl).1 k (aval (.inl g))) (fun q => by cases q) (by show ¬ (i < 0 ∨ (arrV _ _ _).slots.size ≤ _); rw [arrV_size]; exact hin) rfl rfl hdg fun H1 e z oq => kk H1 _ (hI.put hr ?_ z oq)
  show H1[a]? = some (arrV (gA G 5) k (aval (.inl _)))
  rw [e, ← ar_set]
  rfl
end HVR
