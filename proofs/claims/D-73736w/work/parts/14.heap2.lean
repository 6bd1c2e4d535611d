/-! More rows over the component's heap: references, new cells, casts, calls, ends -/
set_option maxRecDepth 100000
/-- what an instanceof answers -/
def isIn (G : GP) (y : HS) (r : Option Nat) (cn : Nat) (b : Bool) : Prop := (r = none ∧ b = false) ∨ ∃ (a c : Nat) (fs : List Value), r = some a ∧ rd G y a (ob c fs) ∧ c < 27 ∧ ((c = cn ∧ b = true) ∨ (c ≠ cn ∧ (cnm c, cnm cn) ∈ ncTab ∧ b = false))
/-- a cast goes through -/
def isOf (G : GP) (y : HS) (r : Option Nat) (cn : Nat) : Prop := ∀ a, r = some a → ∃ fs, rd G y a (ob cn fs)
/-- may lie in an array of Objects -/
def okO (G : GP) (y : HS) (r : Option Nat) : Prop := ∀ v, r = some v → ∃ (c : Nat) (fs : List Value), c < 27 ∧ rd G y v (ob c fs)
theorem gcl_at {c : Nat} (h : c < 27) : ∃ T N, gcl[c]? = some (cnm c, T, N) := by
  have hl : c < gcl.length := h
  refine ⟨gcl[c].2.1, gcl[c].2.2, ?_⟩
  rw [List.getElem?_eq_getElem hl]
  have : cnm c = gcl[c].1 := by
    unfold cnm
    rw [List.getD_eq_getElem?_getD, List.getElem?_eq_getElem hl]
    rfl
  rw [this]
theorem castO_w : ∀ c, c < 27 → Cond.castable (cnm c) "java/lang/Object" ∈ lw_tbl := by
  intro c hc
  match c, hc with
  | 0, _ => exact q2464
  | 1, _ => exact q2466
  | 2, _ => exact q2467
  | 3, _ => exact q2468
  | 4, _ => exact q2469
  | 5, _ => exact q2473
  | 6, _ => exact q2475
  | 7, _ => exact q2477
  | 8, _ => exact q2480
  | 9, _ => exact q2481
  | 10, _ => exact q2482
  | 11, _ => exact q2483
  | 12, _ => exact q2484
  | 13, _ => exact q2485
  | 14, _ => exact q2486
  | 15, _ => exact q2487
  | 16, _ => exact q2488
  | 17, _ => exact q2489
  | 18, _ => exact q2465
  | 19, _ => exact q2470
  | 20, _ => exact q2471
  | 21, _ => exact q2472
  | 22, _ => exact q2474
  | 23, _ => exact q2490
  | 24, _ => exact q2478
  | 25, _ => exact q2479
  | 26, _ => exact q2491
  | k + 27, h => omega
theorem Kn.castO {G : GP} {s : State} (hK : Kn G s) {c : Nat} (hc : c < 27) {comp c0 : ClassId} (h1 : s.vm.findClass "java/lang/Object" = some comp) (h2 : s.vm.findClass (cnm c) = some c0) : s.vm.assignable c0 comp = true := by
  have h := hK.2.2.2.2.1 _ (castO_w c hc) rfl
  obtain ⟨a, b, f1, f2, f3⟩ := Cond.castable_spec (va_Nw.use (A := #[]) rfl h)
  cases f1.symm.trans h2
  cases f2.symm.trans h1
  exact f3
section HVS
variable {p : Program} {l : Launch} {e : Env} {R : Room} {s : State} {m : MethodId} {args : Array Value} {below : List Frame} {meth : Method} {c : Code} {H : Heap} {locs : List Loc} {cells slots : Nat} {Q : State → Prop}
variable {cc bytes : ByteArray} {pc nL maxL n index : Nat} {ls : Array Slot} {rest st0 As : List Value} {G : GP} {y0 y : HS} {own : String}
theorem hv_aload_n (hexec : p.tables.exec = Jvm.exec) (hb : c.code = cc) {k : Fin 4} {i : Nat} {r : Option Nat} (hdg : decode cc pc = .ok (.aload_n k, 1)) (hi : (k : Nat) = i) (hl : ls[i]? = some (.val (va_rf r)))
    (kk : W p l e R s m args below meth c H locs cells slots Q (F0 m (pc + 1) ls (va_rf r :: rest))) : W p l e R s m args below meth c H locs cells slots Q (F0 m pc ls rest) := by
  cases r with
  | none => exact lv_aload_nN hexec hb hdg hi hl kk
  | some a => exact lv_aload_n hexec hb hdg hi hl kk
theorem hv_aload (hexec : p.tables.exec = Jvm.exec) (hb : c.code = cc) {i : Nat} {r : Option Nat} (hdg : decode cc pc = .ok (.aload i, 2)) (hl : ls[i]? = some (.val (va_rf r)))
    (kk : W p l e R s m args below meth c H locs cells slots Q (F0 m (pc + 2) ls (va_rf r :: rest))) : W p l e R s m args below meth c H locs cells slots Q (F0 m pc ls rest) := by
  cases r with
  | none => exact lv_aloadN hexec hb hdg hl kk
  | some a => exact lv_aload hexec hb hdg hl kk
theorem hv_astore_n (hexec : p.tables.exec = Jvm.exec) (hb : c.code = cc) {k : Fin 4} {i nL : Nat} {r : Option Nat} {lv lv' : List (Nat × Value)} (hdg : decode cc pc = .ok (.astore_n k, 1)) (hi : (k : Nat) = i) (h : lv_has ls nL lv) (hn : i < nL) (hl : (i, va_rf r) :: lv.filter (fun q => !(q.1 == i) && !(q.1 + 1 == i && q.2.category == 2)) = lv')
    (kk : ∀ ls' : Array Slot, lv_has ls' nL lv' → W p l e R s m args below meth c H locs cells slots Q (F0 m (pc + 1) ls' rest)) : W p l e R s m args below meth c H locs cells slots Q (F0 m pc ls (va_rf r :: rest)) := by
  cases r with
  | none => exact lv_astore_nN hexec hb hdg hi h hn hl kk
  | some a => exact lv_astore_n hexec hb hdg hi h hn hl kk
theorem hv_astore (hexec : p.tables.exec = Jvm.exec) (hb : c.code = cc) {i nL : Nat} {r : Option Nat} {lv lv' : List (Nat × Value)} (hdg : decode cc pc = .ok (.astore i, 2)) (h : lv_has ls nL lv) (hn : i < nL) (hl : (i, va_rf r) :: lv.filter (fun q => !(q.1 == i) && !(q.1 + 1 == i && q.2.category == 2)) = lv')
    (kk : ∀ ls' : Array Slot, lv_has ls' nL lv' → W p l e R s m args below meth c H locs cells slots Q (F0 m (pc + 2) ls' rest)) : W p l e R s m args below meth c H locs cells slots Q (F0 m pc ls (va_rf r :: rest)) := by
  cases r with
  | none => exact lv_astoreN hexec hb hdg h hn hl kk
  | some a => exact lv_astore hexec hb hdg h hn hl kk
theorem hv_topr {r : Option Nat} (k : ∀ x : Option Nat, x = r → W p l e R s m args below meth c H locs cells slots Q (F0 m pc ls (va_rf x :: rest))) : W p l e R s m args below meth c H locs cells slots Q (F0 m pc ls (va_rf r :: rest)) := k r rfl
theorem hv_dup (hexec : p.tables.exec = Jvm.exec) (hb : c.code = cc) {r : Option Nat} (hdg : decode cc pc = .ok (.dup, 1)) (kk : W p l e R s m args below meth c H locs cells slots Q (F0 m (pc + 1) ls (va_rf r :: va_rf r :: rest))) : W p l e R s m args below meth c H locs cells slots Q (F0 m pc ls (va_rf r :: rest)) := lv_dup hexec hb hdg (by cases r <;> rfl) kk
theorem va_rf_cat (r : Option Nat) : (va_rf r).category = 1 := by cases r <;> rfl
theorem hv_ifnull (hexec : p.tables.exec = Jvm.exec) (hb : c.code = cc) {r : Option Nat} {off : Int} {tgt : Nat} (hdg : decode cc pc = .ok (.ifnull off, 3)) (ht : (pc : Int) + off = (tgt : Int))
    (kt : r = none → W p l e R s m args below meth c H locs cells slots Q (F0 m tgt ls rest)) (kf : ∀ a, r = some a → W p l e R s m args below meth c H locs cells slots Q (F0 m (pc + 3) ls rest)) : W p l e R s m args below meth c H locs cells slots Q (F0 m pc ls (va_rf r :: rest)) := by
  cases r with
  | none => exact lv_ifnullN hexec hb hdg ht (kt rfl)
  | some a => exact lv_ifnull hexec hb hdg (kf a rfl)
theorem hv_ifnonnull (hexec : p.tables.exec = Jvm.exec) (hb : c.code = cc) {r : Option Nat} {off : Int} {tgt : Nat} (hdg : decode cc pc = .ok (.ifnonnull off, 3)) (ht : (pc : Int) + off = (tgt : Int))
    (kt : ∀ a, r = some a → W p l e R s m args below meth c H locs cells slots Q (F0 m tgt ls rest)) (kf : r = none → W p l e R s m args below meth c H locs cells slots Q (F0 m (pc + 3) ls rest)) : W p l e R s m args below meth c H locs cells slots Q (F0 m pc ls (va_rf r :: rest)) := by
  cases r with
  | none => exact lv_ifnonnullN hexec hb hdg (kf rfl)
  | some a => exact lv_ifnonnull hexec hb hdg ht (kt a rfl)
/-- a reference goes into an array of Objects -/
theorem hv_aast6 {a k : Nat} {g : Nat → Option Nat} {i : Int32} {r : Option Nat} (E : CallFix p m c cc nL s args lw_all own) (hK : Kn G s) (hI : HI G y0 y s H locs) (hr : y.1 a = some (ar 6 k g)) (hin : vp_in i k) (hv : okO G y r) (hdg : decode cc pc = .ok (.aastore, 1))
    (kk : ∀ (H1 : Heap) (locs1 : List Loc), HI G y0 (hput y a (ar 6 k (va_up g i.toNatClampNeg r))) s H1 locs1 → W p l e R s m args below meth c H1 locs1 cells slots Q (F0 m (pc + 1) ls rest)) : W p l e R s m args below meth c H locs cells slots Q (F0 m pc ls (va_rf r :: .int i :: .ref a :: rest)) := by
  have hc : H[a]? = some (arrV (gA G 6) k (aval (.inr (.inr g)))) := (hI.1.2.2 a _ hr).1
  have hlt : i.toNatClampNeg < k := Nat.not_le.mp fun q => hin (Or.inr q)
  cases r with
  | none =>
    refine va_WaastN (C := "java/lang/Object") E.1 E.2.1 hc ((hK.1.2 6 _ rfl).1 k (aval (.inr (.inr g)))) (fun h => by cases h) (by show ¬ (i < 0 ∨ (arrV _ _ _).slots.size ≤ _); rw [arrV_size]; exact hin) rfl rfl hdg fun H1 e z oq => kk H1 _ (hI.put hr ?_ z oq)
    show H1[a]? = some (arrV (gA G 6) k (aval (.inr (.inr _))))
    rw [e, ← ar_setq]
    rfl
  | some v =>
    obtain ⟨ci, fs, hci, hrd⟩ := hv v rfl
    obtain ⟨T, N, hg⟩ := gcl_at hci
    obtain ⟨cellV, g1, g2, g3⟩ := (hI.rd hK hrd).recv hK _ T N hg
    obtain ⟨kA, comp, k1, k2, k3, -⟩ := (hK.1.2 6 _ rfl).2
    obtain ⟨kE, hkE, -⟩ := Vm.findClass_spec k3
    obtain ⟨kC, hkC, -⟩ := Vm.findClass_spec g3
    refine W.aast E.1 E.2.1 hc (fun q h => by cases h) (fun h => by cases h) k1 k2 rfl hkE ⟨fun q => hin (Or.inl q), by show _ < (arrV _ _ _).slots.size; rw [arrV_size]; exact hlt⟩ g1 (fun q h => by rw [h] at g2; cases g2) hkC (hK.castO hci k3 g3) rfl rfl hdg fun H1 e z oq => kk H1 _ (hI.put hr ?_ z oq)
    show H1[a]? = some (arrV (gA G 6) k (aval (.inr (.inr _))))
    rw [e, ← ar_setq]
    rfl
/-- a row of letters goes into an array of them -/
theorem hv_aast7 {a k v k2 : Nat} {g : Nat → Option Nat} {g2 : Nat → Int32} {i : Int32} (E : CallFix p m c cc nL s args lw_all own) (hK : Kn G s) (hI : HI G y0 y s H locs) (hr : y.1 a = some (ar 7 k g)) (hin : vp_in i k) (hv : y.1 v = some (ai 4 k2 g2)) (hdg : decode cc pc = .ok (.aastore, 1))
    (kk : ∀ (H1 : Heap) (locs1 : List Loc), HI G y0 (hput y a (ar 7 k (va_up g i.toNatClampNeg (some v)))) s H1 locs1 → W p l e R s m args below meth c H1 locs1 cells slots Q (F0 m (pc + 1) ls rest)) : W p l e R s m args below meth c H locs cells slots Q (F0 m pc ls (va_rf (some v) :: .int i :: .ref a :: rest)) := by
  have hc : H[a]? = some (arrV (gA G 7) k (aval (.inr (.inr g)))) := (hI.1.2.2 a _ hr).1
  have hcv : H[v]? = some (arrV (gA G 4) k2 (aval (.inl g2))) := (hI.1.2.2 v _ hv).1
  have hlt : i.toNatClampNeg < k := Nat.not_le.mp fun q => hin (Or.inr q)
  obtain ⟨-, k7, hk7, comp, hkind⟩ := (hK.1.2 7 _ rfl).1 k (aval (.inr (.inr g)))
  obtain ⟨-, k4, hk4, comp4, hkind4⟩ := (hK.1.2 4 _ rfl).1 k2 (aval (.inl g2))
  have hcc : comp = gA G 4 := hK.2.2.2.2.2.2.2.2.2.1 k7 comp hk7 hkind
  subst hcc
  refine W.aast E.1 E.2.1 hc (fun q h => by cases h) (fun h => by cases h) hk7 hkind rfl hk4 ⟨fun q => hin (Or.inl q), by show _ < (arrV _ _ _).slots.size; rw [arrV_size]; exact hlt⟩ hcv (fun q h => by cases h) hk4 (va_asg _ _) rfl rfl hdg fun H1 e z oq => kk H1 _ (hI.put hr ?_ z oq)
  show H1[a]? = some (arrV (gA G 7) k (aval (.inr (.inr _))))
  rw [e, ← ar_setq]
  rfl
/-- a new object -/
theorem hv_new {ci N B u : Nat} {C : String} {T : u_T} {ty : Nat → FieldType} {fs : List Value} {d : Nat} (E : CallFix p m c cc nL s args lw_all own) (hK : Kn G s) (hI : HI G y0 y s H locs) (K : CI ci C T N ty) (hcl : Cond.classLink own index C ∈ lw_all) (hins : Cond.instantiable C N ∈ lw_all) (hini : Cond.initialized C ∈ lw_all) (hfs : ∀ j, j < N → defaultValue (ty j) = vp_V fs j) (hN : N ≤ 20) (hu : u + 1 ≤ B) (hdg : decode cc pc = .ok (.new index, 3))
    (kk : ∀ H1 : Heap, HI G y0 (hnew y (ob ci fs)) s H1 locs → W p l e (rmB d B) s m args below meth c H1 locs (u + 1) (20 * (u + 1)) Q (F0 m (pc + 3) ls (va_rf (some y.2) :: rest))) : W p l e (rmB d B) s m args below meth c H locs u (20 * u) Q (F0 m pc ls rest) := by
  have hts := E.2.2.2.2
  have hKn := hK.1.1 ci _ K.1
  refine W.newcK (h := y.2) E.1 E.2.1 E.2.2.2.1 (hts _ hcl) (hts _ hins) (hts _ hini) rfl hdg hu (by show 20 * u + N ≤ 20 * B; omega) hKn.2.1 hI.1.1 fun H1 kC hkC e1 z1 o1 => ?_
  refine W.widen (k := u + 1) (n := 20 * (u + 1)) (Nat.le_refl _) (by omega) ?_
  exact kk H1 (hI.new ⟨_, K.1, (u_born ty hts K.2.1 hKn hkC e1 K.2.2.1).to hfs⟩ (by rw [z1, hI.1.1]) (fun q hq => o1 q (by rw [← hI.1.1]; exact hq)))
/-- a new array of numbers -/
theorem hv_newa {B u N : Nat} {d t : Nat} {i : Int32} {atype : ArrayType} {ty : FieldType} (E : CallFix p m c cc nL s args lw_all own) (hK : Kn G s) (hI : HI G y0 y s H locs) (hty : newarray.typeOf atype = ty) (ht : (gty G)[t]? = some (gA G t, ty)) (harr : Cond.arrayClass ty ∈ lw_all) (hRA : va_RA s (gA G t) ty = (s.vm.findClass ("[" ++ ty.toString) = some (gA G t))) (hdv : defaultValue ty = .int 0) (hi : i = nI N) (hN : N < 2 ^ 20) (hcb : componentBytes ty ≤ 8) (hu : u + (1 + N / 20) ≤ B) (hdg : decode cc pc = .ok (.newarray atype, 2))
    (kk : ∀ H1 : Heap, HI G y0 (hnew y (ai t N (fun _ => 0))) s H1 locs → W p l e (rmB d B) s m args below meth c H1 locs (u + (1 + N / 20)) (20 * (u + (1 + N / 20))) Q (F0 m (pc + 2) ls (va_rf (some y.2) :: rest))) : W p l e (rmB d B) s m args below meth c H locs u (20 * u) Q (F0 m pc ls (.int i :: rest)) := by
  subst hi
  subst hty
  have hb : N * componentBytes (newarray.typeOf atype) ≤ 536870912 := by
    have h1 : N * componentBytes (newarray.typeOf atype) ≤ N * 8 := Nat.mul_le_mul_left _ hcb
    have h2 : (2 : Nat) ^ 20 = 1048576 := rfl
    omega
  refine va_newaK (h := y.2) (N := N) E.1 E.2.1 (E.2.2.2.2 _ harr) rfl hdg rfl (nI_pos (by omega)) (nI_clamp (by omega)) hb (by show u + 1 ≤ B; omega) (by show 20 * u + N ≤ 20 * B; omega) hI.1.1 fun H1 cA e1 z1 o1 hAr hNm => ?_
  refine W.widen (k := u + (1 + N / 20)) (n := 20 * (u + (1 + N / 20))) (by omega) (by omega) ?_
  have hcA : cA = gA G t := by
    have := (hK.1.2 t _ ht).2
    rw [hRA] at this
    exact Option.some.inj (hNm.symm.trans this)
  subst hcA
  refine kk H1 (hI.new ?_ (by rw [z1, hI.1.1]) (fun q hq => o1 q (by rw [← hI.1.1]; exact hq)))
  show H1[y.2]? = some (arrV _ _ _)
  rw [e1, hdv]
  rfl
/-- a new array of Objects -/
theorem hv_anew6 {B u N : Nat} {d : Nat} {i : Int32} (E : CallFix p m c cc nL s args lw_all own) (hK : Kn G s) (hI : HI G y0 y s H locs) (hcl : Cond.classLink own index "java/lang/Object" ∈ lw_all) (hi : i = nI N) (hN : N < 2 ^ 20) (hu : u + (1 + N / 20) ≤ B) (hdg : decode cc pc = .ok (.anewarray index, 3))
    (kk : ∀ H1 : Heap, HI G y0 (hnew y (ar 6 N (fun _ => none))) s H1 locs → W p l e (rmB d B) s m args below meth c H1 locs (u + (1 + N / 20)) (20 * (u + (1 + N / 20))) Q (F0 m (pc + 3) ls (va_rf (some y.2) :: rest))) : W p l e (rmB d B) s m args below meth c H locs u (20 * u) Q (F0 m pc ls (.int i :: rest)) := by
  subst hi
  have hN2 : (2 : Nat) ^ 20 = 1048576 := rfl
  refine W.anew E.1 E.2.1 E.2.2.2.1 (E.2.2.2.2 _ hcl) (va_AO.use hK.2.2.2.2.2.2.2.1) rfl hdg rfl (nI_pos (by omega)) (by rw [nI_clamp (by omega)]; omega) (by show u + 1 ≤ B; omega) (by rw [nI_clamp (by omega)]; show 20 * u + N ≤ 20 * B; omega) fun cA kA comp f1 f2 f3 f4 => ?_
  rw [nI_clamp (by omega)]
  refine W.widen (k := u + (1 + N / 20)) (n := 20 * (u + (1 + N / 20))) (by omega) (by omega) ?_
  have hcA : cA = gA G 6 := by
    obtain ⟨kA', comp', r1, r2, r3, r4⟩ := (hK.1.2 6 _ rfl).2
    exact Option.some.inj (f1.symm.trans r4)
  subst hcA
  generalize hH1 : H.push ({ cls := gA G 6, slots := Array.replicate N .null, vm := .none } : Cell) = H1
  have z1 : H1.size = H.size + 1 := by rw [← hH1, Array.size_push]
  have e1 : H1[H.size]? = some (arrV (gA G 6) N (fun _ => .null)) := by rw [← hH1, Array.getElem?_push_size, ← arrV_new]
  have o1 : ∀ q : Nat, q < H.size → H1[q]? = H[q]? := fun q hq => by rw [← hH1, Array.getElem?_push, if_neg (Nat.ne_of_lt hq)]
  have hs := hI.1.1
  rw [show (Value.ref H.size) = va_rf (some y.2) by rw [hs]; rfl]
  refine kk H1 (hI.new ?_ z1 o1)
  show H1[y.2]? = some (arrV _ _ _)
  rw [← hs, e1]
  rfl
/-- a new array of rows of letters -/
theorem hv_anew7 {B u N : Nat} {d : Nat} {i : Int32} (E : CallFix p m c cc nL s args lw_all own) (hK : Kn G s) (hI : HI G y0 y s H locs) (hcl : Cond.classLink own index "[C" ∈ lw_all) (hi : i = nI N) (hN : N < 2 ^ 20) (hu : u + (1 + N / 20) ≤ B) (hdg : decode cc pc = .ok (.anewarray index, 3))
    (kk : ∀ H1 : Heap, HI G y0 (hnew y (ar 7 N (fun _ => none))) s H1 locs → W p l e (rmB d B) s m args below meth c H1 locs (u + (1 + N / 20)) (20 * (u + (1 + N / 20))) Q (F0 m (pc + 3) ls (va_rf (some y.2) :: rest))) : W p l e (rmB d B) s m args below meth c H locs u (20 * u) Q (F0 m pc ls (.int i :: rest)) := by
  subst hi
  have hN2 : (2 : Nat) ^ 20 = 1048576 := rfl
  refine W.anewA (t := .char) E.1 E.2.1 E.2.2.2.1 (E.2.2.2.2 _ hcl) (hK.2.2.2.2.2.2.2.2.1) rfl hdg rfl (nI_pos (by omega)) (by rw [nI_clamp (by omega)]; omega) (by show u + 1 ≤ B; omega) (by rw [nI_clamp (by omega)]; show 20 * u + N ≤ 20 * B; omega) fun cA kA comp f1 f2 f3 f4 => ?_
  rw [nI_clamp (by omega)]
  refine W.widen (k := u + (1 + N / 20)) (n := 20 * (u + (1 + N / 20))) (by omega) (by omega) ?_
  have hcA : cA = gA G 7 := Option.some.inj (f1.symm.trans (hK.1.2 7 _ rfl).2)
  subst hcA
  generalize hH1 : H.push ({ cls := gA G 7, slots := Array.replicate N .null, vm := .none } : Cell) = H1
  have z1 : H1.size = H.size + 1 := by rw [← hH1, Array.size_push]
  have e1 : H1[H.size]? = some (arrV (gA G 7) N (fun _ => .null)) := by rw [← hH1, Array.getElem?_push_size, ← arrV_new]
  have o1 : ∀ q : Nat, q < H.size → H1[q]? = H[q]? := fun q hq => by rw [← hH1, Array.getElem?_push, if_neg (Nat.ne_of_lt hq)]
  have hs := hI.1.1
  rw [show (Value.ref H.size) = va_rf (some y.2) by rw [hs]; rfl]
  refine kk H1 (hI.new ?_ z1 o1)
  show H1[y.2]? = some (arrV _ _ _)
  rw [← hs, e1]
  rfl
theorem hv_inst {cn : Nat} {r : Option Nat} {b : Bool} (E : CallFix p m c cc nL s args lw_all own) (hK : Kn G s) (hI : HI G y0 y s H locs) (hcn : cn < 27) (hcl : Cond.classLink own index (cnm cn) ∈ lw_all) (hr : isIn G y r cn b) (hdg : decode cc pc = .ok (.instanceof index, 3))
    (kk : W p l e R s m args below meth c H locs cells slots Q (F0 m (pc + 3) ls (.int (bi b) :: rest))) : W p l e R s m args below meth c H locs cells slots Q (F0 m pc ls (va_rf r :: rest)) := by
  rcases hr with ⟨rfl, rfl⟩ | ⟨a, ci, fs, rfl, hrd, hci, h⟩
  · exact lv_instN E.1 E.2.1 hdg kk
  · obtain ⟨T, N, hg⟩ := gcl_at hci
    have hrv := (hI.rd hK hrd).recv hK _ T N hg
    rcases h with ⟨rfl, rfl⟩ | ⟨hne, hm, rfl⟩
    · exact va_instS E.1 E.2.1 E.2.2.2.1 (E.2.2.2.2 _ hcl) (hK.1.1 ci _ hg).2 hrv hdg kk
    · exact va_instNo E.1 E.2.1 E.2.2.2.1 (E.2.2.2.2 _ hcl) (hK.2.2.2.2.2.1 _ hm) hrv hdg kk
theorem hv_castC {cn : Nat} {r : Option Nat} (E : CallFix p m c cc nL s args lw_all own) (hK : Kn G s) (hI : HI G y0 y s H locs) (hcn : cn < 27) (hcl : Cond.classLink own index (cnm cn) ∈ lw_all) (hr : isOf G y r cn) (hdg : decode cc pc = .ok (.checkcast index, 3))
    (kk : W p l e R s m args below meth c H locs cells slots Q (F0 m (pc + 3) ls (va_rf r :: rest))) : W p l e R s m args below meth c H locs cells slots Q (F0 m pc ls (va_rf r :: rest)) := by
  cases r with
  | none => exact lv_castN E.1 E.2.1 hdg kk
  | some a =>
    obtain ⟨fs, hrd⟩ := hr a rfl
    obtain ⟨T, N, hg⟩ := gcl_at hcn
    exact va_castS E.1 E.2.1 E.2.2.2.1 (E.2.2.2.2 _ hcl) (hK.1.1 cn _ hg).2 ((hI.rd hK hrd).recv hK _ T N hg) hdg kk
theorem hv_gets {C nm d ref : String} {v : Value} (E : CallFix p m c cc nL s args lw_all own) (hK : Kn G s) (hI : HI G y0 y s H locs) (j : Nat) (hj : (stTab G)[j]? = some (C, nm, d, v)) (hl : Cond.fieldLink own index ref nm d ∈ lw_all) (hsame : ∀ x, s.fieldFound? C nm d = some x → s.fieldFound? ref nm d = some x) (hdg : decode cc pc = .ok (.getstatic index, 3))
    (kk : W p l e R s m args below meth c H locs cells slots Q (F0 m (pc + 3) ls (v :: rest))) : W p l e R s m args below meth c H locs cells slots Q (F0 m pc ls rest) := by
  obtain ⟨cf, kf, fi, f, a, cell, h1, h2, h3, h4, h5, h6, h7, h8⟩ := hK.2.2.2.2.2.2.1 _ (List.mem_of_getElem? hj)
  exact W.gets E.1 E.2.1 E.2.2.2.1 (E.2.2.2.2 _ hl) (hsame _ h1) h2 h3 h4 (by rw [hI.old hK a (Array.getElem?_eq_some_iff.mp h5).1]; exact h5) (fun e => by rw [e] at h6; cases h6) h7 rfl hdg kk
end HVS
