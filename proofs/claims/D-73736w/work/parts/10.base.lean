/-! The ground: classes by number, the room by depth, the model's store -/
set_option maxRecDepth 100000
/-- the classes whose objects we meet -/
def gcl : List vw_C := [(RX1, TX1, 8), (RX2, TX2, 9), (RX4, TX4, 8), (RX5, TX5, 73), (RX6, TX6, 10), (RX7, TX7, 1), (RX8, TX8, 7), (RX9, TX9, 5), (RX10, TX10, 2), (RX11, TX11, 2), (RX12, TX12, 3), (RX13, TX13, 2), (RX14, TX14, 2), (RX15, TX15, 5), (RX16, TX16, 2), (RX17, TX17, 7), (RX18, TX18, 5), (RX19, TX19, 5), (RJ2, TJ2, 3), (RJ4, TJ4, 4), (RJ5, TJ5, 4), (RJ13, TJ13, 1), (RJ14, TJ14, 1), (RJ21, TJ21, 6), (RJ19, TJ19, 6), (RJ20, TJ20, 8), (RJ23, TJ23, 6)]
/-- what is fixed all through a run: class numbers and slots; array classes (0 int 1 long 2 boolean 3 byte 4 char 5 short 6 Object 7 char[]); the heap at the start; addresses of Integer and Character boxes, of String constants and their bytes, of some others (0: ArrayList's empty array, 1: the Integers' cache, 2: the Characters' cache, 3: the mirror of Object[]); statics that hold some reference -/
abbrev GP : Type := va_G × (Nat → ClassId) × Heap × (Nat → Nat) × (Nat → Nat) × (Nat → Nat) × (Nat → Nat) × (Nat → Nat) × (Nat → Option Nat)
abbrev gD (G : GP) : va_G := G.1
abbrev gA (G : GP) : Nat → ClassId := G.2.1
abbrev gH (G : GP) : Heap := G.2.2.1
abbrev gI (G : GP) : Nat → Nat := G.2.2.2.1
abbrev gC (G : GP) : Nat → Nat := G.2.2.2.2.1
abbrev gK (G : GP) : Nat → Nat := G.2.2.2.2.2.1
abbrev gV (G : GP) : Nat → Nat := G.2.2.2.2.2.2.1
abbrev gE (G : GP) : Nat → Nat := G.2.2.2.2.2.2.2.1
abbrev gS (G : GP) : Nat → Option Nat := G.2.2.2.2.2.2.2.2
def strTab : List (String × Nat × String × Nat) := [("CaseGrouper$Edition", 94, "age", 0), ("CaseGrouper$Edition", 100, "days", 5), ("CaseGrouper$Facts", 27, "not", 12), ("CaseGrouper$Facts", 33, "and", 1), ("CaseGrouper$Reader", 151, "to", 17), ("CaseGrouper$Reader", 173, "chapter", 3), ("CaseGrouper$Reader", 175, "rank", 15), ("CaseGrouper$Reader", 177, "partner", 14), ("CaseGrouper$Reader", 179, "tree", 19), ("CaseGrouper$Reader", 181, "but", 2), ("CaseGrouper$Reader", 183, "class", 4), ("CaseGrouper$Reader", 185, "if", 9), ("CaseGrouper$Reader", 187, "then", 16), ("CaseGrouper$Reader", 189, "else", 7), ("CaseGrouper$Reader", 191, "or", 13), ("CaseGrouper$Reader", 193, "and", 1), ("CaseGrouper$Reader", 195, "not", 12), ("CaseGrouper$Reader", 197, "has", 8), ("CaseGrouper$Reader", 199, "main", 11), ("CaseGrouper$Reader", 201, "did", 6), ("CaseGrouper$Reader", 203, "age", 0), ("CaseGrouper$Reader", 205, "days", 5), ("CaseGrouper$Reader", 207, "level", 10), ("CaseGrouper$Reader", 209, "top", 18), ("CaseGrouper$Seen", 154, "has", 8), ("CaseGrouper$Seen", 159, "main", 11), ("CaseGrouper$Seen", 160, "did", 6), ("CaseGrouper$Seen", 162, "age", 0), ("CaseGrouper$Seen", 164, "days", 5), ("CaseGrouper$Seen", 166, "level", 10), ("CaseGrouper$Tried", 26, "age", 0), ("CaseGrouper$Tried", 36, "days", 5), ("CaseGrouper$Tried", 40, "level", 10), ("CaseGrouperModel", 247, "chapter", 3), ("CaseGrouperModel", 249, "rank", 15), ("CaseGrouperModel", 251, "partner", 14), ("CaseGrouperModel", 253, "tree", 19), ("CaseGrouperModel", 255, "class", 4), ("CaseGrouperModel", 257, "if", 9), ("CaseGrouperModel", 259, "then", 16), ("CaseGrouperModel", 261, "else", 7), ("CaseGrouperModel", 263, "or", 13), ("CaseGrouperModel", 265, "and", 1), ("CaseGrouperModel", 267, "not", 12), ("CaseGrouperModel", 269, "has", 8), ("CaseGrouperModel", 271, "main", 11), ("CaseGrouperModel", 272, "did", 6), ("CaseGrouperModel", 274, "to", 17), ("CaseGrouperModel", 276, "but", 2), ("CaseGrouperModel", 278, "age", 0), ("CaseGrouperModel", 279, "days", 5), ("CaseGrouperModel", 280, "level", 10), ("CaseGrouperModel", 282, "top", 18)]
/-- the told words, by number: their letters -/
def wdT : List (List Nat) := [[97, 103, 101], [97, 110, 100], [98, 117, 116], [99, 104, 97, 112, 116, 101, 114], [99, 108, 97, 115, 115], [100, 97, 121, 115], [100, 105, 100], [101, 108, 115, 101], [104, 97, 115], [105, 102], [108, 101, 118, 101, 108], [109, 97, 105, 110], [110, 111, 116], [111, 114], [112, 97, 114, 116, 110, 101, 114], [114, 97, 110, 107], [116, 104, 101, 110], [116, 111], [116, 111, 112], [116, 114, 101, 101]]
def wd (i : Nat) : List Nat := wdT.getD i []
/-- their hashes -/
def whT : List Int32 := [(96511), (96727), (97921), (739015757), (94742904), (3076183), (99455), (3116345), (103066), (3357), (102865796), (3343801), (109267), (3555), (-792929080), (3492908), (3558941), (3707), (115029), (3568542)]
def gty (G : GP) : List (ClassId × FieldType) := [(gA G 0, .int), (gA G 1, .long), (gA G 2, .boolean), (gA G 3, .byte), (gA G 4, .char), (gA G 5, .short), (gA G 6, .object "java/lang/Object"), (gA G 7, .array .char)]
/-- the room of a call that goes d calls deep -/
abbrev rmd (d mc ms : Nat) : Room := { frames := d, cells := mc, slots := ms, locals := 46 * d }
/-- an object of the start's heap: class, fields -/
def cob (G : GP) (a ci : Nat) (fs : List Value) : Prop := ∃ cell : Cell, (gH G)[a]? = some cell ∧ cell.cls = (gD G).1 ci ∧ cell.vm ≠ .unknown ∧ cell.vm.isStatics = false ∧ ∀ (k : Nat) (v : Value), fs[k]? = some v → cell.slots[(gD G).2 ci k]? = some v
/-- an array of the start's heap -/
def car (G : GP) (a t n : Nat) (f : Nat → Value) : Prop := ∃ cell : Cell, (gH G)[a]? = some cell ∧ cell.cls = gA G t ∧ cell.vm ≠ .unknown ∧ cell.vm.isStatics = false ∧ cell.slots.size = n ∧ ∀ j : Nat, j < n → cell.slots[j]? = some (f j)
/-- the constants that lie in the start's heap -/
def GC (G : GP) : Prop := (∀ i, i < 20 → cob G (gK G i) 20 [.ref (gV G i), .int 0, .int (whT.getD i 0), .int 0] ∧ car G (gV G i) 3 (wd i).length (fun j => .int (nI ((wd i).getD j 0)))) ∧ (∀ k, k < 256 → cob G (gI G k) 21 [.int (vb_c k)]) ∧ (∀ k, k < 128 → cob G (gC G k) 22 [.int (nI k)]) ∧ car G (gE G 0) 6 0 (fun _ => .null)
/-- words that don't ride in the lists, but hold all through a run -/
def nwOK (w : Cond) : Bool := match w with
  | .fieldLinkNest _ _ _ _ _ _ => true
  | .methodLinkNest _ _ _ _ => true
  | .castable _ _ => true
  | .declares _ => true
  | _ => false
theorem nw_warm {w : Cond} (hw : nwOK w = true) {s U : State} (hW : s.WarmedH U.vm) (h : va_Nw w s) : va_Nw w U := by
  unfold nwOK at hw
  split at hw
  · exact h.warmF hW
  · exact h.warmM hW
  · exact h.warmC hW
  · exact h.warmD hW
  · cases hw
theorem nw_same {w : Cond} (hw : nwOK w = true) {u U : State} (h : u.vm = U.vm) (hZ : va_Nw w u) : va_Nw w U := by
  unfold nwOK at hw
  split at hw
  · exact hZ.same rfl h
  · exact hZ.same rfl h
  · exact hZ.same rfl h
  · exact hZ.same rfl h
  · cases hw
def ncTab : List (String × String) := [("java/lang/String", "java/lang/Integer"), ("java/lang/String", "java/lang/Character"), ("java/lang/String", "CaseGrouper$Code"), ("java/lang/Integer", "java/lang/String"), ("java/lang/Integer", "java/lang/Character"), ("java/lang/Integer", "CaseGrouper$Code"), ("java/lang/Character", "java/lang/String"), ("java/lang/Character", "java/lang/Integer"), ("java/lang/Character", "CaseGrouper$Code"), ("CaseGrouper$Code", "java/lang/String"), ("CaseGrouper$Code", "java/lang/Integer"), ("CaseGrouper$Code", "java/lang/Character"), ("CaseGrouper$Joined", "CaseGrouper$Atom"), ("CaseGrouper$Choice", "CaseGrouper$Leaf"), ("CaseGrouper$Wrong", "java/lang/ClassCastException"), ("CaseGrouper$Wrong", "java/lang/NullPointerException"), ("java/lang/NullPointerException", "java/lang/ClassCastException"), ("java/lang/ArrayIndexOutOfBoundsException", "java/lang/NullPointerException")]
/-- statics: class, name, descriptor, value -/
def stTab (G : GP) : List (String × String × String × Value) := [("java/lang/String", "COMPACT_STRINGS", "Z", .int 1), ("java/lang/Integer$IntegerCache", "high", "I", .int 127), ("java/util/ArrayList", "DEFAULTCAPACITY_EMPTY_ELEMENTDATA", "[Ljava/lang/Object;", .ref (gE G 0)), ("java/lang/Integer$IntegerCache", "cache", "[Ljava/lang/Integer;", .ref (gE G 1)), ("java/lang/Character$CharacterCache", "cache", "[Ljava/lang/Character;", .ref (gE G 2)), ("jdk/internal/util/Preconditions", "SIOOBE_FORMATTER", "Ljava/util/function/BiFunction;", va_rf (gS G 0)), ("java/lang/Throwable", "UNASSIGNED_STACK", "[Ljava/lang/StackTraceElement;", va_rf (gS G 1)), ("java/lang/Throwable", "SUPPRESSED_SENTINEL", "Ljava/util/List;", va_rf (gS G 2))]
/-- what a throw of the machine's own is told: two statics of Throwable, the modules -/
def KX (G : GP) (U : State) : Prop := vx_Zq Bundle.tN "UNASSIGNED_STACK" Bundle.steD (fun a => (gH G).size ≤ a) U (gH G) ∧ vx_Zq Bundle.tN "SUPPRESSED_SENTINEL" Bundle.listD (fun a => (gH G).size ≤ a) U (gH G) ∧ modulesRight_1 U = true
theorem KX.moved {G : GP} {u U : State} (hvm : u.vm.Alike U.vm) (h : KX G u) : KX G U := by
  refine ⟨vx_Zq.moved hvm h.1, vx_Zq.moved hvm h.2.1, ?_⟩
  have e : U.vm.modules = u.vm.modules := by rw [hvm.1]
  unfold modulesRight_1
  rw [e]
  exact h.2.2
/-- what every method is told of the tables and of the old heap -/
def Kn (G : GP) (U : State) : Prop := va_K (gD G) gcl (gty G) U ∧ (∀ q : Nat, q < (gH G).size → U.heap[q]? = (gH G)[q]?) ∧ (∀ q ∈ strTab, vk_R q.1 q.2.1 q.2.2.1 (gK G q.2.2.2) U) ∧ GC G ∧ (∀ w ∈ lw_tbl, nwOK w = true → va_Nw w U) ∧ (∀ q ∈ ncTab, va_Nc q.1 q.2 U) ∧ (∀ q ∈ stTab G, va_Z q.1 q.2.1 q.2.2.1 q.2.2.2 (fun a => (gH G).size ≤ a) U (gH G)) ∧ va_AO "java/lang/Object" U ∧ (Cond.arrayOver (.array .char)).before #[] U = true ∧ (∀ (k7 : Class) (comp : ClassId), U.vm.classes[gA G 7]? = some k7 → k7.kind = .array comp (.array .char) → comp = gA G 4) ∧ va_Mi "[Ljava/lang/Object;" (gE G 3) U ∧ va_T (.object "java/lang/Integer") (gE G 1) 256 (fun k => .ref (gI G k)) (fun a => (gH G).size ≤ a) U (gH G) ∧ va_T (.object "java/lang/Character") (gE G 2) 128 (fun k => .ref (gC G k)) (fun a => (gH G).size ≤ a) U (gH G) ∧ va_Nw (.selects "java/lang/StringBuilder" yJ3_ensureCapacityInternal yJ3_ensureCapacityInternal) U ∧ KX G U
theorem AOc.moved {u U : State} (hvm : u.vm.Alike U.vm) (h : (Cond.arrayOver (.array .char)).before #[] u = true) : (Cond.arrayOver (.array .char)).before #[] U = true := by
  obtain ⟨comp, c, k, h1, h2, h3, h4, h5⟩ := arrayOverA_spec h
  obtain ⟨k', hk', he⟩ := hvm.2.2 _ _ h3
  have e1 : U.vm.findClass (FieldType.array FieldType.char).toString = some comp := by rw [hvm.findClass]; exact h1
  have e2 : (U.vm.classes.findIdx? fun x => match x.kind with | .array component _ => component == comp | _ => false) = some c := by
    rw [hvm.findIdx?_eq _ (fun _ => rfl)]; exact h2
  have e5 : U.vm.findClass ("[" ++ (FieldType.array FieldType.char).toString) = some c := by rw [hvm.findClass]; exact h5
  have e4 : k'.kind = .array comp (.array .char) := by rw [he]; exact h4
  simp only [Cond.before, Cond.holds, Cond.value, e1, Option.bind_some, e5]
  refine beq_iff_eq.mpr (Eq.trans (congrArg (fun z => Option.bind z _) e2) ?_)
  simp only [Option.bind_some, hk', Option.map_some, e4]
  simp
theorem comp7.moved {G : GP} {u U : State} (hvm : u.vm.Alike U.vm) (h : ∀ (k7 : Class) (comp : ClassId), u.vm.classes[gA G 7]? = some k7 → k7.kind = .array comp (.array .char) → comp = gA G 4) : ∀ (k7 : Class) (comp : ClassId), U.vm.classes[gA G 7]? = some k7 → k7.kind = .array comp (.array .char) → comp = gA G 4 := by
  intro k7 comp h1 h2
  obtain ⟨k', hk', he⟩ := hvm.symm.2.2 _ _ h1
  exact h k' comp hk' (by rw [he]; exact h2)
theorem Kn.next {G : GP} {A : Nat → Prop} {s U : State} {H : Heap} {locs : List Loc} (h : Kn G s) (hA : ∀ q, A q → (gH G).size ≤ q) (hS : va_S A s.heap H locs) (hU : U.heap = H) (hv : s.WarmedH U.vm) : Kn G U := by
  refine ⟨va_K.moved hv.alike h.1, fun q hq => ?_, fun q hq => (h.2.2.1 q hq).warm hv, h.2.2.2.1, fun w hw hn => nw_warm hn hv (h.2.2.2.2.1 w hw hn), fun q hq => (h.2.2.2.2.2.1 q hq).moved hv.alike, fun q hq => (h.2.2.2.2.2.2.1 q hq).moved hv.alike, h.2.2.2.2.2.2.2.1.moved hv.alike, AOc.moved hv.alike h.2.2.2.2.2.2.2.2.1, comp7.moved hv.alike h.2.2.2.2.2.2.2.2.2.1, h.2.2.2.2.2.2.2.2.2.2.1.moved hv.alike, h.2.2.2.2.2.2.2.2.2.2.2.1.moved hv.alike, h.2.2.2.2.2.2.2.2.2.2.2.2.1.moved hv.alike, word_at hv (Or.inl rfl) h.2.2.2.2.2.2.2.2.2.2.2.2.2.1, h.2.2.2.2.2.2.2.2.2.2.2.2.2.2.moved hv.alike⟩
  have h1 := h.2.1 q hq
  have hl : q < s.heap.size := by
    by_cases hl : q < s.heap.size
    · exact hl
    · rw [Array.getElem?_eq_none (by omega), Array.getElem?_eq_getElem hq] at h1
      cases h1
  rw [hU, hS.2.1 q hl (fun z => by have := hA q z; omega)]
  exact h1
theorem Kn.call {G : GP} {U : State} {g : JFrame} {mk : MethodId} {a : Array Value} (h : Kn G U) : Kn G (U.calling g mk a) :=
  ⟨va_K.moved (u := U) (U := U.calling g mk a) (Vm.Alike.refl _) h.1, h.2.1, fun q hq => (h.2.2.1 q hq).same rfl, h.2.2.2.1, fun w hw hn => nw_same (u := U) (U := U.calling g mk a) hn rfl (h.2.2.2.2.1 w hw hn), fun q hq => va_Nc.moved (u := U) (U := U.calling g mk a) (Vm.Alike.refl _) (h.2.2.2.2.2.1 q hq), fun q hq => va_Z.moved (u := U) (U := U.calling g mk a) (Vm.Alike.refl _) (h.2.2.2.2.2.2.1 q hq), va_AO.moved (u := U) (U := U.calling g mk a) (Vm.Alike.refl _) h.2.2.2.2.2.2.2.1, AOc.moved (u := U) (U := U.calling g mk a) (Vm.Alike.refl _) h.2.2.2.2.2.2.2.2.1, comp7.moved (u := U) (U := U.calling g mk a) (Vm.Alike.refl _) h.2.2.2.2.2.2.2.2.2.1, va_Mi.moved (u := U) (U := U.calling g mk a) (Vm.Alike.refl _) h.2.2.2.2.2.2.2.2.2.2.1, va_T.moved (u := U) (U := U.calling g mk a) (Vm.Alike.refl _) h.2.2.2.2.2.2.2.2.2.2.2.1, va_T.moved (u := U) (U := U.calling g mk a) (Vm.Alike.refl _) h.2.2.2.2.2.2.2.2.2.2.2.2.1, va_Nw.same (u := U) (U := U.calling g mk a) rfl rfl h.2.2.2.2.2.2.2.2.2.2.2.2.2.1, KX.moved (u := U) (U := U.calling g mk a) (Vm.Alike.refl _) h.2.2.2.2.2.2.2.2.2.2.2.2.2.2⟩
section LDW
variable {p : Program} {l : Launch} {e : Env} {R : Room} {s : State} {m : MethodId} {args : Array Value} {below : List Frame} {meth : Method} {c : Code} {H : Heap} {locs : List Loc} {cells slots : Nat} {Q : State → Prop} {cc : ByteArray} {pc : Nat} {ls : Array Slot} {rest : List Value}
theorem va_ldcSw (hexec : p.tables.exec = Jvm.exec) (hb : c.code = cc) {own tx : String} {index q : Nat} (hown : s.vm.findClass own = some m.cls) (hZ : vk_R own index tx q s) (hdg : decode cc pc = .ok (.ldc_w index, 3))
    (kk : W p l e R s m args below meth c H locs cells slots Q (F0 m (pc + 3) ls (.ref q :: rest))) : W p l e R s m args below meth c H locs cells slots Q (F0 m pc ls rest) := by
  intro T hT X
  obtain ⟨t, a1, b1⟩ := kk T hT X
  refine ⟨t, ?_, b1⟩
  obtain ⟨k, cf, i, a', hk, hcf, hcp, -, hr, hev'⟩ := Cond.stringRef_spec hown hZ.1
  cases hZ.2.symm.trans hev'
  obtain ⟨k', hk', he⟩ := X.warmed.alike.2.2 _ _ hk
  have hr' : k'.resolved[index]? = some (some (.string q)) := by
    rcases X.warmed.entry hk hk' index with h | ⟨h, -⟩
    · rw [h]; exact hr
    · rw [hr] at h; cases h
  subst hb
  jvm_step X.here [hexec, hdg, ldc_w.wp_string (e := e) (s := T) (f := F0 m pc ls rest) X.here.top hk' (by rw [he]; exact hcf) hcp hr']
  exact a1
end LDW
/-! ===== the model's store ===== -/
/-- ints by field; the field word; int arrays by field; long arrays by field -/
abbrev TS : Type := (Nat → Int32) × Int64 × (Nat → Nat → Int32) × (Nat → Nat → Int64)
def sx (σ : TS) (k : Nat) : Int32 := σ.1 k
def sw (σ : TS) : Int64 := σ.2.1
def sf (σ : TS) (k j : Nat) : Int32 := σ.2.2.1 k j
def sg (σ : TS) (k j : Nat) : Int64 := σ.2.2.2 k j
def ux (σ : TS) (k : Nat) (v : Int32) : TS := (fun j => if j = k then v else σ.1 j, σ.2.1, σ.2.2.1, σ.2.2.2)
def uw (σ : TS) (v : Int64) : TS := (σ.1, v, σ.2.2.1, σ.2.2.2)
def uf (σ : TS) (k j : Nat) (v : Int32) : TS := (σ.1, σ.2.1, fun a b => if a = k ∧ b = j then v else σ.2.2.1 a b, σ.2.2.2)
def ug (σ : TS) (k j : Nat) (v : Int64) : TS := (σ.1, σ.2.1, σ.2.2.1, fun a b => if a = k ∧ b = j then v else σ.2.2.2 a b)
theorem sx_ux (σ : TS) (k : Nat) (v : Int32) (j : Nat) : sx (ux σ k v) j = if j = k then v else sx σ j := rfl
theorem sx_uw (σ : TS) (v : Int64) (j : Nat) : sx (uw σ v) j = sx σ j := rfl
theorem sx_uf (σ : TS) (k i : Nat) (v : Int32) (j : Nat) : sx (uf σ k i v) j = sx σ j := rfl
theorem sx_ug (σ : TS) (k i : Nat) (v : Int64) (j : Nat) : sx (ug σ k i v) j = sx σ j := rfl
theorem sw_ux (σ : TS) (k : Nat) (v : Int32) : sw (ux σ k v) = sw σ := rfl
theorem sw_uw (σ : TS) (v : Int64) : sw (uw σ v) = v := rfl
theorem sw_uf (σ : TS) (k i : Nat) (v : Int32) : sw (uf σ k i v) = sw σ := rfl
theorem sw_ug (σ : TS) (k i : Nat) (v : Int64) : sw (ug σ k i v) = sw σ := rfl
theorem sf_ux (σ : TS) (k : Nat) (v : Int32) (a b : Nat) : sf (ux σ k v) a b = sf σ a b := rfl
theorem sf_uw (σ : TS) (v : Int64) (a b : Nat) : sf (uw σ v) a b = sf σ a b := rfl
theorem sf_uf (σ : TS) (k i : Nat) (v : Int32) (a b : Nat) : sf (uf σ k i v) a b = if a = k ∧ b = i then v else sf σ a b := rfl
theorem sf_ug (σ : TS) (k i : Nat) (v : Int64) (a b : Nat) : sf (ug σ k i v) a b = sf σ a b := rfl
theorem sg_ux (σ : TS) (k : Nat) (v : Int32) (a b : Nat) : sg (ux σ k v) a b = sg σ a b := rfl
theorem sg_uw (σ : TS) (v : Int64) (a b : Nat) : sg (uw σ v) a b = sg σ a b := rfl
theorem sg_uf (σ : TS) (k i : Nat) (v : Int32) (a b : Nat) : sg (uf σ k i v) a b = sg σ a b := rfl
theorem sg_ug (σ : TS) (k i : Nat) (v : Int64) (a b : Nat) : sg (ug σ k i v) a b = if a = k ∧ b = i then v else sg σ a b := rfl
/-- which fields hold arrays; 73 stands for the object itself -/
def tarr (k : Nat) : Bool := (k == 0) || (Nat.ble 3 k && Nat.ble k 28) || (Nat.ble 35 k && Nat.ble k 41) || (Nat.ble 52 k && Nat.ble k 54) || (Nat.ble 56 k && Nat.ble k 58) || (k == 64) || (Nat.ble 67 k && Nat.ble k 70) || (k == 72)
def tlg (k : Nat) : Bool := (k == 4) || (k == 18)
/-- an array of ints -/
def tai (k : Nat) : Bool := tarr k && !(tlg k) && !(k == 68)
def tlen (k : Nat) : Nat := match k with
  | 0 => 936
  | 3 => 21
  | 4 => 18
  | 5 => 18
  | 6 => 54
  | 7 => 54
  | 8 => 18
  | 9 => 30
  | 10 => 30
  | 11 => 30
  | 12 => 30
  | 13 => 30
  | 14 => 30
  | 15 => 30
  | 16 => 90
  | 17 => 90
  | 18 => 48
  | 19 => 48
  | 20 => 120
  | 21 => 120
  | 22 => 120
  | 23 => 120
  | 24 => 120
  | 25 => 1200
  | 26 => 1200
  | 27 => 1200
  | 28 => 1200
  | 35 => 24
  | 36 => 24
  | 37 => 24
  | 38 => 24
  | 39 => 192
  | 40 => 24
  | 41 => 144
  | 52 => 6
  | 53 => 6
  | 54 => 6
  | 56 => 6
  | 57 => 6
  | 58 => 6
  | 64 => 40
  | 67 => 40
  | 68 => 40
  | 69 => 1700
  | 70 => 5
  | 72 => 1200
  | _ => 0
/-- what a field holds -/
def fv (ta : Nat → Nat) (σ : TS) (k : Nat) : Value := if k = 46 then .long (sw σ) else if tarr k = true then .ref (ta k) else .int (sx σ k)
def tce (G : GP) (σ : TS) (k : Nat) : Cell := if tlg k = true then arrV (gA G 1) (tlen k) (fun j => .long (sg σ k j)) else arrV (if k = 68 then gA G 2 else gA G 0) (tlen k) (fun j => .int (sf σ k j))
/-- the model's object stands at ta 73, its arrays at ta k -/
def TW (G : GP) (ta : Nat → Nat) (σ : TS) (H : Heap) : Prop := t_OB (ta 73) ((gD G).1 3) 73 ((gD G).2 3) H (fv ta σ) ∧ ∀ k, tarr k = true → H[ta k]? = some (tce G σ k)
def TA (ta : Nat → Nat) : Nat → Prop := fun q => ∃ k, (tarr k = true ∨ k = 73) ∧ q = ta k
/-- the addresses are apart and new -/
def TD (G : GP) (ta : Nat → Nat) : Prop := (∀ i j, (tarr i = true ∨ i = 73) → (tarr j = true ∨ j = 73) → ta i = ta j → i = j) ∧ ∀ k, (tarr k = true ∨ k = 73) → (gH G).size ≤ ta k
theorem TA.at {ta : Nat → Nat} {k : Nat} (h : tarr k = true ∨ k = 73) : TA ta (ta k) := ⟨k, h, rfl⟩
def TK (G : GP) (ta : Nat → Nat) (U : State) : Prop := Kn G U ∧ TD G ta
theorem TK.next {G : GP} {ta : Nat → Nat} {s U : State} {H : Heap} {locs : List Loc} (h : TK G ta s) (hS : va_S (TA ta) s.heap H locs) (hU : U.heap = H) (hv : s.WarmedH U.vm) : TK G ta U :=
  ⟨h.1.next (A := TA ta) (fun q ⟨k, hk, e⟩ => by rw [e]; exact h.2.2 k hk) hS hU hv, h.2⟩
theorem TW.kept {G : GP} {ta : Nat → Nat} {σ : TS} {H H1 : Heap} (h : TW G ta σ H) (hq : ∀ q, TA ta q → H1[q]? = H[q]?) : TW G ta σ H1 :=
  ⟨h.1.kept (hq _ (TA.at (Or.inr rfl))), fun k hk => (hq _ (TA.at (Or.inl hk))).trans (h.2 k hk)⟩
/-- a method's start and end -/
abbrev tPc (G : GP) (ta : Nat → Nat) (σ : TS) (av : List Value) : Array Value → State → Prop := va_Pc av (fun U => TK G ta U ∧ TW G ta σ U.heap)
abbrev tB (G : GP) (ta : Nat → Nat) : TS → State → Prop := fun σ t => TW G ta σ t.heap
theorem tPc.blind {G : GP} {ta : Nat → Nat} {σ : TS} {av : List Value} : FrameBlind (tPc G ta σ av) := by
  intro a U g mk h
  obtain ⟨h1, ⟨hK, hD⟩, hW⟩ := h
  exact ⟨h1, ⟨hK.call, hD⟩, hW⟩
section TWR
variable {p : Program} {l : Launch} {e : Env} {R : Room} {s : State} {m : MethodId} {args : Array Value} {below : List Frame} {meth : Method} {c : Code} {H : Heap} {locs : List Loc} {cells slots : Nat} {Q : State → Prop}
variable {cc : ByteArray} {pc nL : Nat} {ls : Array Slot} {rest : List Value} {G : GP} {ta : Nat → Nat} {σ : TS}
theorem tw_get {v : Value} {index : Nat} (E : CallFix p m c cc nL s args lw_all RX5) (hK : TK G ta s) (hT : TW G ta σ H) (k : Nat) (hk : k < 73) (hl : Cond.fieldLink RX5 index RX5 (TX5 k).2.1 (TX5 k).2.2.1 ∈ lw_all) (hR : (TX5 k).1 = RX5) (hv : fv ta σ k = v) (hdg : decode cc pc = .ok (.getfield index, 3))
    (kk : W p l e R s m args below meth c H locs cells slots Q (F0 m (pc + 3) ls (v :: rest))) : W p l e R s m args below meth c H locs cells slots Q (F0 m pc ls (.ref (ta 73) :: rest)) := by
  obtain ⟨hx, hb, -, hown, hts⟩ := E
  obtain ⟨cell, q1, q2, q3, q4⟩ := hT.1
  obtain ⟨hS, hfc, kC, hkC, hkind⟩ := hK.1.1.1 3 (RX5, TX5, 73) rfl
  obtain ⟨cf, kf, fi, f, hi, hsl⟩ := hS k hk
  have hst := (u_facts hfc hkC (u_lays hts in_X5 hk) hi).1
  rw [hR] at hi
  refine W.getf hx hb hown (hts _ hl) hi hst q1 (by rw [q3]; exact fun h => by cases h) (v := v) ?_ rfl rfl hdg kk
  rw [hsl, ← hv]
  exact q4 k hk
theorem tw_put {v : Value} {index : Nat} {σ' : TS} (E : CallFix p m c cc nL s args lw_all RX5) (hK : TK G ta s) (hT : TW G ta σ H) (hS0 : va_S (TA ta) s.heap H locs) (k : Nat) (hk : k < 73) (hl : Cond.fieldLink RX5 index RX5 (TX5 k).2.1 (TX5 k).2.2.1 ∈ lw_all) (hR : (TX5 k).1 = RX5) (hfin : (TX5 k).2.2.2 = false) (hn : narrow (tyX5 k) v = v) (hfit : fits (tyX5 k) v = true) (hdg : decode cc pc = .ok (.putfield index, 3))
    (h1 : ∀ j, j < 73 → fv ta σ' j = if j = k then v else fv ta σ j) (h2 : ∀ j, tarr j = true → tce G σ' j = tce G σ j)
    (kk : ∀ (H1 : Heap) (locs1 : List Loc), TW G ta σ' H1 → va_S (TA ta) s.heap H1 locs1 → W p l e R s m args below meth c H1 locs1 cells slots Q (F0 m (pc + 3) ls rest)) : W p l e R s m args below meth c H locs cells slots Q (F0 m pc ls (v :: .ref (ta 73) :: rest)) := by
  obtain ⟨hx, hb, -, hown, hts⟩ := E
  have hap := va_apart (own := RX5) (D := gD G) (cl := gcl) (tys := gty G) (s := s) (ci := 3) hts in_X5 tyX5 tyX5_ok nmX5 hK.1.1 rfl
  obtain ⟨cell, q1, q2, q3, q4⟩ := hT.1
  obtain ⟨hS, hfc, kC, hkC, hkind⟩ := hK.1.1.1 3 (RX5, TX5, 73) rfl
  obtain ⟨cf, kf, fi, f, hi, hsl⟩ := hS k hk
  have hlay := hts _ (in_X5 _ (u_in_lay hk))
  unfold u_lay at hlay
  rw [if_neg (by rw [hfin]; decide)] at hlay
  have hst := (u_facts hfc hkC (u_lays hts in_X5 hk) hi).1
  have h6 := u_store hfc hkC hkind hlay hi (tyX5_ok k hk) hn hfit
  rw [hR] at hi
  refine W.putK hx hb (f := f) ⟨hown, hts _ hl, ⟨_, _, _, hi⟩, hst⟩ (by rw [q2]; exact h6) q1 q3 (by rw [hsl]; exact k2_hasslot (q4 k hk)) rfl rfl hdg fun H' e1 e2 e3 => ?_
  rw [hsl] at e1 ⊢
  refine kk H' _ ⟨t_OB.to (V := updV (fv ta σ) k v) ⟨_, e1, q2, q3, t_set q4 hap hk v⟩ (fun j hj => (h1 j hj).symm), fun j hj => ?_⟩ (hS0.put e2 e3 (TA.at (Or.inr rfl)))
  rw [e3 _ (fun z => by have := hK.2.1 j 73 (Or.inl hj) (Or.inr rfl) z; subst this; cases hj), h2 j hj]
  exact hT.2 j hj
/-- an int field is written -/
theorem tw_puti {x : Int32} {index : Nat} (E : CallFix p m c cc nL s args lw_all RX5) (hK : TK G ta s) (hT : TW G ta σ H) (hS0 : va_S (TA ta) s.heap H locs) (k : Nat) (hk : k < 73) (hl : Cond.fieldLink RX5 index RX5 (TX5 k).2.1 (TX5 k).2.2.1 ∈ lw_all) (hR : (TX5 k).1 = RX5) (hfin : (TX5 k).2.2.2 = false) (hk2 : (tarr k || k == 46) = false) (hty : tyX5 k = .int) (hdg : decode cc pc = .ok (.putfield index, 3))
    (kk : ∀ (H1 : Heap) (locs1 : List Loc), TW G ta (ux σ k x) H1 → va_S (TA ta) s.heap H1 locs1 → W p l e R s m args below meth c H1 locs1 cells slots Q (F0 m (pc + 3) ls rest)) : W p l e R s m args below meth c H locs cells slots Q (F0 m pc ls (.int x :: .ref (ta 73) :: rest)) := by
  simp only [Bool.or_eq_false_iff, beq_eq_false_iff_ne] at hk2
  refine tw_put (σ' := ux σ k x) E hK hT hS0 k hk hl hR hfin (by rw [hty]; rfl) (by rw [hty]; rfl) hdg (fun j hj => ?_) (fun j hj => rfl) kk
  by_cases h : j = k
  · subst h
    simp [fv, hk2.1, hk2.2, sx_ux]
  · simp [fv, sx_ux, h, sw_ux]
/-- a boolean field is written -/
theorem tw_putz {x : Int32} {index : Nat} (E : CallFix p m c cc nL s args lw_all RX5) (hK : TK G ta s) (hT : TW G ta σ H) (hS0 : va_S (TA ta) s.heap H locs) (k : Nat) (hk : k < 73) (hl : Cond.fieldLink RX5 index RX5 (TX5 k).2.1 (TX5 k).2.2.1 ∈ lw_all) (hR : (TX5 k).1 = RX5) (hfin : (TX5 k).2.2.2 = false) (hk2 : (tarr k || k == 46) = false) (hty : tyX5 k = .boolean) (hn : narrow .boolean (.int x) = .int x) (hfit : fits .boolean (.int x) = true) (hdg : decode cc pc = .ok (.putfield index, 3))
    (kk : ∀ (H1 : Heap) (locs1 : List Loc), TW G ta (ux σ k x) H1 → va_S (TA ta) s.heap H1 locs1 → W p l e R s m args below meth c H1 locs1 cells slots Q (F0 m (pc + 3) ls rest)) : W p l e R s m args below meth c H locs cells slots Q (F0 m pc ls (.int x :: .ref (ta 73) :: rest)) := by
  simp only [Bool.or_eq_false_iff, beq_eq_false_iff_ne] at hk2
  refine tw_put (σ' := ux σ k x) E hK hT hS0 k hk hl hR hfin (by rw [hty]; exact hn) (by rw [hty]; exact hfit) hdg (fun j hj => ?_) (fun j hj => rfl) kk
  by_cases h : j = k
  · subst h
    simp [fv, hk2.1, hk2.2, sx_ux]
  · simp [fv, sx_ux, h, sw_ux]
/-- the long field is written -/
theorem tw_putl {x : Int64} {index : Nat} (E : CallFix p m c cc nL s args lw_all RX5) (hK : TK G ta s) (hT : TW G ta σ H) (hS0 : va_S (TA ta) s.heap H locs) (hl : Cond.fieldLink RX5 index RX5 (TX5 46).2.1 (TX5 46).2.2.1 ∈ lw_all) (hdg : decode cc pc = .ok (.putfield index, 3))
    (kk : ∀ (H1 : Heap) (locs1 : List Loc), TW G ta (uw σ x) H1 → va_S (TA ta) s.heap H1 locs1 → W p l e R s m args below meth c H1 locs1 cells slots Q (F0 m (pc + 3) ls rest)) : W p l e R s m args below meth c H locs cells slots Q (F0 m pc ls (.long x :: .ref (ta 73) :: rest)) := by
  refine tw_put (σ' := uw σ x) E hK hT hS0 46 (by decide) hl rfl rfl rfl rfl hdg (fun j hj => ?_) (fun j hj => rfl) kk
  by_cases h : j = 46
  · subst h
    simp [fv, sw_uw]
  · simp [fv, sx_uw, h]
theorem tw_iald {i : Int32} (E : CallFix p m c cc nL s args lw_all RX5) (hK : TK G ta s) (hT : TW G ta σ H) (k : Nat) (hk : tai k = true) (hin : vp_in i (tlen k)) (hdg : decode cc pc = .ok (.iaload, 1))
    (kk : W p l e R s m args below meth c H locs cells slots Q (F0 m (pc + 1) ls (.int (sf σ k i.toNatClampNeg) :: rest))) : W p l e R s m args below meth c H locs cells slots Q (F0 m pc ls (.int i :: .ref (ta k) :: rest)) := by
  simp only [tai, Bool.and_eq_true, Bool.not_eq_true', beq_eq_false_iff_ne] at hk
  have hc := hT.2 k hk.1.1
  rw [tce, if_neg (by rw [hk.1.2]; decide), if_neg hk.2] at hc
  exact va_iald (D := gD G) (cl := gcl) (tys := gty G) (ws := [(ta k, .inl (gA G 0, tlen k, .inl (sf σ k)))]) E.1 E.2.1 hK.1.1 (fun j q hq => by
    match j, hq with
    | 0, hq => cases hq; exact hc
    | j + 1, hq => simp at hq) 0 0 rfl rfl hin hdg kk
theorem tw_zald {i : Int32} (E : CallFix p m c cc nL s args lw_all RX5) (hK : TK G ta s) (hT : TW G ta σ H) (hin : vp_in i 40) (hdg : decode cc pc = .ok (.baload, 1))
    (kk : W p l e R s m args below meth c H locs cells slots Q (F0 m (pc + 1) ls (.int (sf σ 68 i.toNatClampNeg) :: rest))) : W p l e R s m args below meth c H locs cells slots Q (F0 m pc ls (.int i :: .ref (ta 68) :: rest)) := by
  have hc := hT.2 68 rfl
  exact va_zald (D := gD G) (cl := gcl) (tys := gty G) (ws := [(ta 68, .inl (gA G 2, 40, .inl (sf σ 68)))]) E.1 E.2.1 hK.1.1 (fun j q hq => by
    match j, hq with
    | 0, hq => cases hq; exact hc
    | j + 1, hq => simp at hq) 0 2 rfl rfl hin hdg kk
theorem tw_lald {i : Int32} (E : CallFix p m c cc nL s args lw_all RX5) (hK : TK G ta s) (hT : TW G ta σ H) (k : Nat) (hk : tarr k = true) (hk2 : tlg k = true) (hin : vp_in i (tlen k)) (hdg : decode cc pc = .ok (.laload, 1))
    (kk : W p l e R s m args below meth c H locs cells slots Q (F0 m (pc + 1) ls (.long (sg σ k i.toNatClampNeg) :: rest))) : W p l e R s m args below meth c H locs cells slots Q (F0 m pc ls (.int i :: .ref (ta k) :: rest)) := by
  have hc := hT.2 k hk
  rw [tce, if_pos hk2] at hc
  exact va_lald (D := gD G) (cl := gcl) (tys := gty G) (ws := [(ta k, .inl (gA G 1, tlen k, .inr (.inl (sg σ k))))]) E.1 E.2.1 hK.1.1 (fun j q hq => by
    match j, hq with
    | 0, hq => cases hq; exact hc
    | j + 1, hq => simp at hq) 0 1 rfl rfl hin hdg kk
theorem tw_last_aux {σ' : TS} {k : Nat} {H1 : Heap} (hK : TK G ta s) (hT : TW G ta σ H) (hk : tarr k = true) (hf : ∀ j, fv ta σ' j = fv ta σ j) (hc : ∀ j, j ≠ k → tce G σ' j = tce G σ j) (e : H1[ta k]? = some (tce G σ' k)) (oq : ∀ q : Nat, q ≠ ta k → H1[q]? = H[q]?) : TW G ta σ' H1 := by
  refine ⟨(hT.1.kept (oq _ (fun z => ?_))).to (fun j _ => (hf j).symm), fun j hj => ?_⟩
  · have := hK.2.1 73 k (Or.inr rfl) (Or.inl hk) z
    subst this
    cases hk
  · by_cases h : j = k
    · subst h; exact e
    · rw [oq _ (fun z => h (hK.2.1 j k (Or.inl hj) (Or.inl hk) z)), hc j h]
      exact hT.2 j hj
theorem tw_iast {i x : Int32} (E : CallFix p m c cc nL s args lw_all RX5) (hK : TK G ta s) (hT : TW G ta σ H) (hS0 : va_S (TA ta) s.heap H locs) (k : Nat) (hk : tai k = true) (hin : vp_in i (tlen k)) (hdg : decode cc pc = .ok (.iastore, 1))
    (kk : ∀ (H1 : Heap) (locs1 : List Loc), TW G ta (uf σ k i.toNatClampNeg x) H1 → va_S (TA ta) s.heap H1 locs1 → W p l e R s m args below meth c H1 locs1 cells slots Q (F0 m (pc + 1) ls rest)) : W p l e R s m args below meth c H locs cells slots Q (F0 m pc ls (.int x :: .int i :: .ref (ta k) :: rest)) := by
  simp only [tai, Bool.and_eq_true, Bool.not_eq_true', beq_eq_false_iff_ne] at hk
  have hc := hT.2 k hk.1.1
  rw [tce, if_neg (by rw [hk.1.2]; decide), if_neg hk.2] at hc
  refine W.iast E.1 E.2.1 hc ((hK.1.1.2 0 _ rfl).1 (tlen k) (fun j => .int (sf σ k j))) (fun q => by cases q) (by show ¬ (i < 0 ∨ (arrV _ _ _).slots.size ≤ _); rw [arrV_size]; exact hin) rfl rfl hdg fun H1 e z oq => ?_
  refine kk H1 _ (tw_last_aux hK hT hk.1.1 (fun j => rfl) (fun j hj => ?_) ?_ oq) (hS0.put z oq (TA.at (Or.inl hk.1.1)))
  · simp [tce, sf_uf, sg_uf, hj]
  · rw [e, arrV_store, tce, if_neg (by rw [hk.1.2]; decide), if_neg hk.2]
    congr 2
    funext q
    by_cases hq : q = i.toNatClampNeg
    · subst hq
      simp [updV, sf_uf]
    · simp [updV, sf_uf, hq]
theorem tw_zast {i x : Int32} (E : CallFix p m c cc nL s args lw_all RX5) (hK : TK G ta s) (hT : TW G ta σ H) (hS0 : va_S (TA ta) s.heap H locs) (hin : vp_in i 40) (hx : vp_nar .boolean x = x) (hdg : decode cc pc = .ok (.bastore, 1))
    (kk : ∀ (H1 : Heap) (locs1 : List Loc), TW G ta (uf σ 68 i.toNatClampNeg x) H1 → va_S (TA ta) s.heap H1 locs1 → W p l e R s m args below meth c H1 locs1 cells slots Q (F0 m (pc + 1) ls rest)) : W p l e R s m args below meth c H locs cells slots Q (F0 m pc ls (.int x :: .int i :: .ref (ta 68) :: rest)) := by
  have hc := hT.2 68 rfl
  have hc : H[ta 68]? = some (arrV (gA G 2) 40 (fun j => .int (sf σ 68 j))) := hc
  refine W.zast E.1 E.2.1 hc ((hK.1.1.2 2 _ rfl).1 40 (fun j => .int (sf σ 68 j))) (fun q => by cases q) (by show ¬ (i < 0 ∨ (arrV _ _ _).slots.size ≤ _); rw [arrV_size]; exact hin) rfl rfl hdg fun H1 e z oq => ?_
  refine kk H1 _ (tw_last_aux hK hT rfl (fun j => rfl) (fun j hj => ?_) ?_ oq) (hS0.put z oq (TA.at (Or.inl rfl)))
  · simp [tce, sf_uf, sg_uf, hj]
  · have hn : narrow .boolean (.int x) = .int x := by
      have : narrow .boolean (.int x) = .int (vp_nar .boolean x) := rfl
      rw [this, hx]
    rw [e, arrV_store]
    show some (arrV (gA G 2) 40 _) = some (arrV (gA G 2) 40 (fun j => .int (sf (uf σ 68 i.toNatClampNeg x) 68 j)))
    congr 2
    funext q
    by_cases hq : q = i.toNatClampNeg
    · subst hq
      simp [updV, sf_uf, hn]
    · simp [updV, sf_uf, hq]
theorem tw_last {i : Int32} {x : Int64} (E : CallFix p m c cc nL s args lw_all RX5) (hK : TK G ta s) (hT : TW G ta σ H) (hS0 : va_S (TA ta) s.heap H locs) (k : Nat) (hk : tarr k = true) (hk2 : tlg k = true) (hin : vp_in i (tlen k)) (hdg : decode cc pc = .ok (.lastore, 1))
    (kk : ∀ (H1 : Heap) (locs1 : List Loc), TW G ta (ug σ k i.toNatClampNeg x) H1 → va_S (TA ta) s.heap H1 locs1 → W p l e R s m args below meth c H1 locs1 cells slots Q (F0 m (pc + 1) ls rest)) : W p l e R s m args below meth c H locs cells slots Q (F0 m pc ls (.long x :: .int i :: .ref (ta k) :: rest)) := by
  have hc := hT.2 k hk
  rw [tce, if_pos hk2] at hc
  refine W.last E.1 E.2.1 hc ((hK.1.1.2 1 _ rfl).1 (tlen k) (fun j => .long (sg σ k j))) (fun q => by cases q) (by show ¬ (i < 0 ∨ (arrV _ _ _).slots.size ≤ _); rw [arrV_size]; exact hin) rfl rfl hdg fun H1 e z oq => ?_
  refine kk H1 _ (tw_last_aux hK hT hk (fun j => rfl) (fun j hj => ?_) ?_ oq) (hS0.put z oq (TA.at (Or.inl hk)))
  · simp [tce, sf_ug, sg_ug, hj]
  · rw [e, arrV_store, tce, if_pos hk2]
    congr 2
    funext q
    by_cases hq : q = i.toNatClampNeg
    · subst hq
      simp [updV, sg_ug]
    · simp [updV, sg_ug, hq]
theorem tw_ldcS {index : Nat} {own tx : String} (E : CallFix p m c cc nL s args lw_all own) (hK : TK G ta s) (j i : Nat) (hj : strTab[j]? = some (own, index, tx, i)) (hdg : decode cc pc = .ok (.ldc index, 2))
    (kk : W p l e R s m args below meth c H locs cells slots Q (F0 m (pc + 2) ls (.ref (gK G i) :: rest))) : W p l e R s m args below meth c H locs cells slots Q (F0 m pc ls rest) :=
  va_ldcS E.1 E.2.1 E.2.2.2.1 (hK.1.2.2.1 _ (List.mem_of_getElem? hj)) hdg kk
theorem tw_ldcSw {index : Nat} {own tx : String} (E : CallFix p m c cc nL s args lw_all own) (hK : TK G ta s) (j i : Nat) (hj : strTab[j]? = some (own, index, tx, i)) (hdg : decode cc pc = .ok (.ldc_w index, 3))
    (kk : W p l e R s m args below meth c H locs cells slots Q (F0 m (pc + 3) ls (.ref (gK G i) :: rest))) : W p l e R s m args below meth c H locs cells slots Q (F0 m pc ls rest) :=
  va_ldcSw E.1 E.2.1 E.2.2.2.1 (hK.1.2.2.1 _ (List.mem_of_getElem? hj)) hdg kk
end TWR
