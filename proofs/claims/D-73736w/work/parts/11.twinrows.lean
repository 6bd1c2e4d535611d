/-! The model's methods: start, calls, ends -/
set_option maxRecDepth 100000
/-- a truth value as an int -/
def bi (b : Bool) : Int32 := if b = true then 1 else 0
theorem bi_t : bi true = 1 := rfl
theorem bi_f : bi false = 0 := rfl
theorem bi_z {b : Bool} (h : bi b = 0) : b = false := by
  cases b
  · rfl
  · exact absurd h (by decide)
theorem bi_n {b : Bool} (h : ¬ bi b = 0) : b = true := by
  cases b
  · exact absurd rfl h
  · rfl
theorem bi_nar (b : Bool) : narrow .boolean (.int (bi b)) = .int (bi b) := by cases b <;> rfl
theorem rm_ok {a b L mc ms mc' ms' : Nat} (h : a + 1 ≤ b) (hL : L ≤ 27) : (rmd a mc ms).frames + 1 ≤ (rmd b mc' ms').frames ∧ 8 + (L + 11) + (rmd a mc ms).locals ≤ (rmd b mc' ms').locals := ⟨h, by show 8 + (L + 11) + 46 * a ≤ 46 * b; omega⟩
/-- outside a table of cases -/
theorem tab_out {x : Int32} {lo hi : Int} (h : ∀ j : Int, lo ≤ j → j ≤ hi → ¬ x.toInt = j) : x.toInt < lo ∨ hi < x.toInt := by
  by_cases h1 : x.toInt < lo
  · exact Or.inl h1
  · by_cases h2 : hi < x.toInt
    · exact Or.inr h2
    · exact absurd rfl (h x.toInt (by omega) (by omega))
abbrev tQi (G : GP) (ta : Nat → Nat) (post : Int32 → TS → Prop) : Array Value → State → Outcome → State → Prop := va_Qi post (tB G ta) (TA ta)
abbrev tQz (G : GP) (ta : Nat → Nat) (post : Bool → TS → Prop) : Array Value → State → Outcome → State → Prop := va_Qi (fun r σ => ∃ b, r = bi b ∧ post b σ) (tB G ta) (TA ta)
abbrev tQl (G : GP) (ta : Nat → Nat) (post : Int64 → TS → Prop) : Array Value → State → Outcome → State → Prop := va_Ql post (tB G ta) (TA ta)
abbrev tQv (G : GP) (ta : Nat → Nat) (post : TS → Prop) : Array Value → State → Outcome → State → Prop := va_Qv post (tB G ta) (TA ta)
theorem tw_met {l : Launch} {G : GP} {ta : Nat → Nat} {y : MethodName} {cc : ByteArray} {maxL D : Nat} {ret : Option FieldType} {av : List Value} {σ : TS} {Qc : Array Value → State → Outcome → State → Prop} (hy : plainName y.cls = true) (hcls : y.cls = RX5) (hn : (lg_sl av).length ≤ maxL)
    (body : ∀ (p : Program) (e : Env) (s : State) (m : MethodId) (args : Array Value) (below : List Frame) (meth : Method) (c : Code) (ls : Array Slot), CallFix p m c cc maxL s args lw_all RX5 → meth.sig.returnType = ret → meth.locks = false → TK G ta s → TW G ta σ s.heap → va_S (TA ta) s.heap s.heap [] → lv_has ls maxL (lv_args 0 av) → W p l e (rmd D 0 0) s m args below meth c s.heap [] 0 0 (MQ below Qc args s 0 0 (TA ta)) (F0 m 0 ls [])) :
    Met l y (ws_ y cc maxL ret) (rmd D 0 0) (tPc G ta σ av) Qc 0 0 (TA ta) := by
  refine Met.ofW (cc := cc) (maxL := maxL) (ret := ret) hy rfl ?_
  intro p e s m args below meth c s₁ B hml hv
  obtain ⟨ha, hK, hT⟩ := hv
  have hts := atoms_spec (ws := ws_ y cc maxL ret) B.pre
  have hts : ∀ w ∈ lw_all, w.before args s = true := fun w h => hts w (List.mem_cons_of_mem _ h)
  have hown : s.vm.findClass RX5 = some m.cls := by rw [← hcls]; exact findClass_of_methodNamed B.named
  have hl := lv_entry av (n := maxL) hn
  refine W.eq (g2 := F0 m 0 ((lg_sl av ++ List.replicate (maxL - (lg_sl av).length) Slot.unset).toArray) []) (by rw [ha]; exact lg_entry_eq m av maxL) ?_
  exact body p e s m args below meth c _ ⟨B.exec, B.bytes, hml, hown, hts⟩ B.returns B.notSynchronized hK hT va_S.rf hl
section TWC
variable {p : Program} {l : Launch} {e : Env} {R : Room} {s : State} {m : MethodId} {args : Array Value} {below : List Frame} {meth : Method} {c : Code} {H : Heap} {locs : List Loc} {Q : State → Prop}
variable {cc bytes : ByteArray} {pc nL maxL n index : Nat} {ls : Array Slot} {rest st0 As : List Value} {G : GP} {ta : Nat → Nat} {σ : TS} {y : MethodName} {ws : List Cond} {rm : Room} {ret : Option FieldType}
theorem tw_recv (hK : TK G ta s) (hT : TW G ta σ H) : ∃ cell : Cell, H[ta 73]? = some cell ∧ cell.vm.isStatics = false ∧ s.vm.findClass RX5 = some cell.cls := by
  obtain ⟨cell, h1, h2, h3, -⟩ := hT.1
  exact ⟨cell, h1, by rw [h3]; rfl, by rw [h2]; exact (hK.1.1.1 3 (RX5, TX5, 73) rfl).2.1⟩
theorem tw_callVi {post : Int32 → TS → Prop} (E : CallFix p m c cc nL s args lw_all RX5) (hK : TK G ta s) (hT : TW G ta σ H) (hS : va_S (TA ta) s.heap H locs) (hM : Met l y ws rm (tPc G ta σ (.ref (ta 73) :: As)) (tQi G ta post) 0 0 (TA ta)) (cw : CallW R s args RX5 RX5 index y bytes maxL ret ws rm 0 0 n) (hn : As.length = n) (hst : st0 = As.reverse ++ .ref (ta 73) :: rest) (hz : ls.size = nL) (hr : (rest.map fun v => v.category).sum ≤ 8) (hdg : decode cc pc = .ok (.invokevirtual index, 3))
    (kk : ∀ (r : Int32) (σ1 : TS) (H1 : Heap) (locs1 : List Loc), post r σ1 → TW G ta σ1 H1 → va_S (TA ta) s.heap H1 locs1 → W p l e R s m args below meth c H1 locs1 0 0 Q (F0 m (pc + 3) ls (.int r :: rest))) : W p l e R s m args below meth c H locs 0 0 Q (F0 m pc ls st0) := by
  refine va_calli (va_runV (As := As) (rest := rest) E hM cw ⟨tPc.blind, tw_recv hK hT, fun U hU hW => ⟨rfl, hK.next hS hU hW, by rw [hU]; exact hT⟩⟩ rfl hn hz hst (lv_room hr) hdg ⟨Nat.zero_le _, Nat.zero_le _⟩) hS (fun _ _ h => h) (fun _ h => h) (fun r σ1 t H1 locs1 ht hvm hw hB hz hk hS1 => ?_)
  exact kk r σ1 H1 locs1 hw (by rw [← ht]; exact hB) hS1
theorem tw_callVz {post : Bool → TS → Prop} (E : CallFix p m c cc nL s args lw_all RX5) (hK : TK G ta s) (hT : TW G ta σ H) (hS : va_S (TA ta) s.heap H locs) (hM : Met l y ws rm (tPc G ta σ (.ref (ta 73) :: As)) (tQz G ta post) 0 0 (TA ta)) (cw : CallW R s args RX5 RX5 index y bytes maxL ret ws rm 0 0 n) (hn : As.length = n) (hst : st0 = As.reverse ++ .ref (ta 73) :: rest) (hz : ls.size = nL) (hr : (rest.map fun v => v.category).sum ≤ 8) (hdg : decode cc pc = .ok (.invokevirtual index, 3))
    (kk : ∀ (b : Bool) (σ1 : TS) (H1 : Heap) (locs1 : List Loc), post b σ1 → TW G ta σ1 H1 → va_S (TA ta) s.heap H1 locs1 → W p l e R s m args below meth c H1 locs1 0 0 Q (F0 m (pc + 3) ls (.int (bi b) :: rest))) : W p l e R s m args below meth c H locs 0 0 Q (F0 m pc ls st0) := by
  refine tw_callVi E hK hT hS hM cw hn hst hz hr hdg (fun r σ1 H1 locs1 hw hT1 hS1 => ?_)
  obtain ⟨b, rfl, hw⟩ := hw
  exact kk b σ1 H1 locs1 hw hT1 hS1
theorem tw_callVl {post : Int64 → TS → Prop} (E : CallFix p m c cc nL s args lw_all RX5) (hK : TK G ta s) (hT : TW G ta σ H) (hS : va_S (TA ta) s.heap H locs) (hM : Met l y ws rm (tPc G ta σ (.ref (ta 73) :: As)) (tQl G ta post) 0 0 (TA ta)) (cw : CallW R s args RX5 RX5 index y bytes maxL ret ws rm 0 0 n) (hn : As.length = n) (hst : st0 = As.reverse ++ .ref (ta 73) :: rest) (hz : ls.size = nL) (hr : (rest.map fun v => v.category).sum ≤ 8) (hdg : decode cc pc = .ok (.invokevirtual index, 3))
    (kk : ∀ (r : Int64) (σ1 : TS) (H1 : Heap) (locs1 : List Loc), post r σ1 → TW G ta σ1 H1 → va_S (TA ta) s.heap H1 locs1 → W p l e R s m args below meth c H1 locs1 0 0 Q (F0 m (pc + 3) ls (.long r :: rest))) : W p l e R s m args below meth c H locs 0 0 Q (F0 m pc ls st0) := by
  refine va_calll (va_runV (As := As) (rest := rest) E hM cw ⟨tPc.blind, tw_recv hK hT, fun U hU hW => ⟨rfl, hK.next hS hU hW, by rw [hU]; exact hT⟩⟩ rfl hn hz hst (lv_room hr) hdg ⟨Nat.zero_le _, Nat.zero_le _⟩) hS (fun _ _ h => h) (fun _ h => h) (fun r σ1 t H1 locs1 ht hvm hw hB hz hk hS1 => ?_)
  exact kk r σ1 H1 locs1 hw (by rw [← ht]; exact hB) hS1
theorem tw_callVv {post : TS → Prop} (E : CallFix p m c cc nL s args lw_all RX5) (hK : TK G ta s) (hT : TW G ta σ H) (hS : va_S (TA ta) s.heap H locs) (hM : Met l y ws rm (tPc G ta σ (.ref (ta 73) :: As)) (tQv G ta post) 0 0 (TA ta)) (cw : CallW R s args RX5 RX5 index y bytes maxL ret ws rm 0 0 n) (hn : As.length = n) (hst : st0 = As.reverse ++ .ref (ta 73) :: rest) (hz : ls.size = nL) (hr : (rest.map fun v => v.category).sum ≤ 8) (hdg : decode cc pc = .ok (.invokevirtual index, 3))
    (kk : ∀ (σ1 : TS) (H1 : Heap) (locs1 : List Loc), post σ1 → TW G ta σ1 H1 → va_S (TA ta) s.heap H1 locs1 → W p l e R s m args below meth c H1 locs1 0 0 Q (F0 m (pc + 3) ls rest)) : W p l e R s m args below meth c H locs 0 0 Q (F0 m pc ls st0) := by
  refine va_callv (va_runV (As := As) (rest := rest) E hM cw ⟨tPc.blind, tw_recv hK hT, fun U hU hW => ⟨rfl, hK.next hS hU hW, by rw [hU]; exact hT⟩⟩ rfl hn hz hst (lv_room hr) hdg ⟨Nat.zero_le _, Nat.zero_le _⟩) hS (fun _ _ h => h) (fun _ h => h) (fun σ1 t H1 locs1 ht hvm hw hB hz hk hS1 => ?_)
  exact kk σ1 H1 locs1 hw (by rw [← ht]; exact hB) hS1
theorem tw_callSi {post : Int32 → TS → Prop} (E : CallFix p m c cc nL s args lw_all RX5) (hK : TK G ta s) (hT : TW G ta σ H) (hS : va_S (TA ta) s.heap H locs) (hM : Met l y ws rm (tPc G ta σ As) (tQi G ta post) 0 0 (TA ta)) (cw : CallB R s args RX5 index y bytes maxL ret ws rm 0 0 n ∧ (Cond.static y).before args s = true) (hn : As.length = n) (hst : st0 = As.reverse ++ rest) (hz : ls.size = nL) (hr : (rest.map fun v => v.category).sum ≤ 8) (hdg : decode cc pc = .ok (.invokestatic index, 3))
    (kk : ∀ (r : Int32) (σ1 : TS) (H1 : Heap) (locs1 : List Loc), post r σ1 → TW G ta σ1 H1 → va_S (TA ta) s.heap H1 locs1 → W p l e R s m args below meth c H1 locs1 0 0 Q (F0 m (pc + 3) ls (.int r :: rest))) : W p l e R s m args below meth c H locs 0 0 Q (F0 m pc ls st0) := by
  refine va_calli (va_runS (As := As) (rest := rest) E hM cw ⟨tPc.blind, fun U hU hW => ⟨rfl, hK.next hS hU hW, by rw [hU]; exact hT⟩⟩ rfl hn hz hst (lv_room hr) hdg ⟨Nat.zero_le _, Nat.zero_le _⟩) hS (fun _ _ h => h) (fun _ h => h) (fun r σ1 t H1 locs1 ht hvm hw hB hz hk hS1 => ?_)
  exact kk r σ1 H1 locs1 hw (by rw [← ht]; exact hB) hS1
theorem tw_callSz {post : Bool → TS → Prop} (E : CallFix p m c cc nL s args lw_all RX5) (hK : TK G ta s) (hT : TW G ta σ H) (hS : va_S (TA ta) s.heap H locs) (hM : Met l y ws rm (tPc G ta σ As) (tQz G ta post) 0 0 (TA ta)) (cw : CallB R s args RX5 index y bytes maxL ret ws rm 0 0 n ∧ (Cond.static y).before args s = true) (hn : As.length = n) (hst : st0 = As.reverse ++ rest) (hz : ls.size = nL) (hr : (rest.map fun v => v.category).sum ≤ 8) (hdg : decode cc pc = .ok (.invokestatic index, 3))
    (kk : ∀ (b : Bool) (σ1 : TS) (H1 : Heap) (locs1 : List Loc), post b σ1 → TW G ta σ1 H1 → va_S (TA ta) s.heap H1 locs1 → W p l e R s m args below meth c H1 locs1 0 0 Q (F0 m (pc + 3) ls (.int (bi b) :: rest))) : W p l e R s m args below meth c H locs 0 0 Q (F0 m pc ls st0) := by
  refine tw_callSi E hK hT hS hM cw hn hst hz hr hdg (fun r σ1 H1 locs1 hw hT1 hS1 => ?_)
  obtain ⟨b, rfl, hw⟩ := hw
  exact kk b σ1 H1 locs1 hw hT1 hS1
theorem tw_callSl {post : Int64 → TS → Prop} (E : CallFix p m c cc nL s args lw_all RX5) (hK : TK G ta s) (hT : TW G ta σ H) (hS : va_S (TA ta) s.heap H locs) (hM : Met l y ws rm (tPc G ta σ As) (tQl G ta post) 0 0 (TA ta)) (cw : CallB R s args RX5 index y bytes maxL ret ws rm 0 0 n ∧ (Cond.static y).before args s = true) (hn : As.length = n) (hst : st0 = As.reverse ++ rest) (hz : ls.size = nL) (hr : (rest.map fun v => v.category).sum ≤ 8) (hdg : decode cc pc = .ok (.invokestatic index, 3))
    (kk : ∀ (r : Int64) (σ1 : TS) (H1 : Heap) (locs1 : List Loc), post r σ1 → TW G ta σ1 H1 → va_S (TA ta) s.heap H1 locs1 → W p l e R s m args below meth c H1 locs1 0 0 Q (F0 m (pc + 3) ls (.long r :: rest))) : W p l e R s m args below meth c H locs 0 0 Q (F0 m pc ls st0) := by
  refine va_calll (va_runS (As := As) (rest := rest) E hM cw ⟨tPc.blind, fun U hU hW => ⟨rfl, hK.next hS hU hW, by rw [hU]; exact hT⟩⟩ rfl hn hz hst (lv_room hr) hdg ⟨Nat.zero_le _, Nat.zero_le _⟩) hS (fun _ _ h => h) (fun _ h => h) (fun r σ1 t H1 locs1 ht hvm hw hB hz hk hS1 => ?_)
  exact kk r σ1 H1 locs1 hw (by rw [← ht]; exact hB) hS1
theorem tw_callSv {post : TS → Prop} (E : CallFix p m c cc nL s args lw_all RX5) (hK : TK G ta s) (hT : TW G ta σ H) (hS : va_S (TA ta) s.heap H locs) (hM : Met l y ws rm (tPc G ta σ As) (tQv G ta post) 0 0 (TA ta)) (cw : CallB R s args RX5 index y bytes maxL ret ws rm 0 0 n ∧ (Cond.static y).before args s = true) (hn : As.length = n) (hst : st0 = As.reverse ++ rest) (hz : ls.size = nL) (hr : (rest.map fun v => v.category).sum ≤ 8) (hdg : decode cc pc = .ok (.invokestatic index, 3))
    (kk : ∀ (σ1 : TS) (H1 : Heap) (locs1 : List Loc), post σ1 → TW G ta σ1 H1 → va_S (TA ta) s.heap H1 locs1 → W p l e R s m args below meth c H1 locs1 0 0 Q (F0 m (pc + 3) ls rest)) : W p l e R s m args below meth c H locs 0 0 Q (F0 m pc ls st0) := by
  refine va_callv (va_runS (As := As) (rest := rest) E hM cw ⟨tPc.blind, fun U hU hW => ⟨rfl, hK.next hS hU hW, by rw [hU]; exact hT⟩⟩ rfl hn hz hst (lv_room hr) hdg ⟨Nat.zero_le _, Nat.zero_le _⟩) hS (fun _ _ h => h) (fun _ h => h) (fun σ1 t H1 locs1 ht hvm hw hB hz hk hS1 => ?_)
  exact kk σ1 H1 locs1 hw (by rw [← ht]; exact hB) hS1
theorem tw_ireti {post : Int32 → TS → Prop} {v : Int32} (E : CallFix p m c cc nL s args lw_all RX5) (hr : meth.sig.returnType = some .int) (hlocks : meth.locks = false) (hT : TW G ta σ H) (hS : va_S (TA ta) s.heap H locs) (hw : post v σ) (hdg : decode cc pc = .ok (.ireturn, 1)) : W p l e R s m args below meth c H locs 0 0 (MQ below (tQi G ta post) args s 0 0 (TA ta)) (F0 m pc ls [.int v]) :=
  W.iret (v := v) E.1 E.2.1 hr (fun t ht hW => ⟨⟨v, σ, rfl, hw, by show TW G ta σ t.heap; rw [ht]; exact hT⟩, hS.F ht⟩) hS.2.2 hdg hlocks
theorem tw_iretz {post : Bool → TS → Prop} {v : Int32} {b : Bool} (E : CallFix p m c cc nL s args lw_all RX5) (hr : meth.sig.returnType = some .boolean) (hlocks : meth.locks = false) (hT : TW G ta σ H) (hS : va_S (TA ta) s.heap H locs) (hv : v = bi b) (hw : post b σ) (hdg : decode cc pc = .ok (.ireturn, 1)) : W p l e R s m args below meth c H locs 0 0 (MQ below (tQz G ta post) args s 0 0 (TA ta)) (F0 m pc ls [.int v]) := by
  subst hv
  exact W.zret (v := bi b) E.1 E.2.1 hr (bi_nar b) (fun t ht hW => ⟨⟨bi b, σ, rfl, ⟨b, rfl, hw⟩, by show TW G ta σ t.heap; rw [ht]; exact hT⟩, hS.F ht⟩) hS.2.2 hdg hlocks
theorem tw_lret {post : Int64 → TS → Prop} {v : Int64} (E : CallFix p m c cc nL s args lw_all RX5) (hr : meth.sig.returnType = some .long) (hlocks : meth.locks = false) (hT : TW G ta σ H) (hS : va_S (TA ta) s.heap H locs) (hw : post v σ) (hdg : decode cc pc = .ok (.lreturn, 1)) : W p l e R s m args below meth c H locs 0 0 (MQ below (tQl G ta post) args s 0 0 (TA ta)) (F0 m pc ls [.long v]) :=
  W.lret (v := v) E.1 E.2.1 hr (fun t ht hW => ⟨⟨v, σ, rfl, hw, by show TW G ta σ t.heap; rw [ht]; exact hT⟩, hS.F ht⟩) hS.2.2 hdg hlocks
theorem tw_vret {post : TS → Prop} (E : CallFix p m c cc nL s args lw_all RX5) (hr : meth.sig.returnType = none) (hlocks : meth.locks = false) (hT : TW G ta σ H) (hS : va_S (TA ta) s.heap H locs) (hw : post σ) (hdg : decode cc pc = .ok (.return_, 1)) : W p l e R s m args below meth c H locs 0 0 (MQ below (tQv G ta post) args s 0 0 (TA ta)) (F0 m pc ls []) :=
  W.vret E.1 E.2.1 hr (fun t ht hW => ⟨⟨σ, rfl, hw, by show TW G ta σ t.heap; rw [ht]; exact hT⟩, hS.F ht⟩) hS.2.2 hdg hlocks
end TWC
/-- what packed(w) answers for a told word -/
def pkv (i : Nat) : Int64 := (wd i).foldl (fun v c => 256 * v + Int64.ofNat c) 0
def wp_packed (post : Int64 → TS → Prop) (z0 : TS) (k0 : Nat) : Prop := k0 < 20 ∧ post (pkv k0) z0
theorem hs_packed : yX5_packed.cls ≠ "java/lang/invoke/MethodHandle" ∧ yX5_packed.cls ≠ "java/lang/invoke/VarHandle" ∧ (parseMethodDescriptor yX5_packed.desc).map (fun d => d.parameters.length) = some 1 := by decide +kernel
