/-! Object.equals, walked in its own frame (its class isn't told to be initialized, so no contract can be paid) -/
set_option maxRecDepth 100000
theorem objeq_steps {p : Program} {e : Env} {below : List Frame} {s target : State} {g : JFrame} {c : Code} (h : At s g.method c below) (hexec : p.tables.exec = Jvm.exec) {m : MethodId} {meth : Method} {code : Code} {a : Nat} {r : Option Nat} {ig : Instr} {len : Nat} (acts : List Action)
    (hm : s.vm.method? m = some meth) (hc : meth.code = some code) (hbytes : code.code = cJ24_equals) (hml : code.maxLocals = 2) (hl : meth.locks = false) (hret : meth.sig.returnType = some .boolean) (hp : s.plainMethod m)
    (hroom : e.platform.stackFull (((s.setTop g).threads[(s.setTop g).cur]?).getD { frames := [] }) (s.setTop g).frames code.maxLocals = false)
    (hdg : decode c.code g.pc = .ok (ig, len))
    (hrest : Steps p.tables e below (s.setTop { g with pc := g.pc + len, stack := .int (bi (decide (some a = r))) :: g.stack }) target) :
    Steps p.tables e below (doInvoke e (s.setTop g) acts m #[.ref a, va_rf r]).1 target := by
  rw [doInvoke_enter h.top acts hm hc hl hroom]
  have hU := h.enter #[.ref a, va_rf r] hm hc hp
  have hf := frames_entered (g := g) h.top (.java (entryFrame m #[.ref a, va_rf r] code.maxLocals))
  have hmU : ((s.setTop g).pushFrame (.java (entryFrame m #[.ref a, va_rf r] code.maxLocals))).vm.method? m = some meth := by simpa [State.pushFrame, State.setFrames] using hm
  have hcgU : ((s.setTop g).pushFrame (.java (entryFrame m #[.ref a, va_rf r] code.maxLocals))).code? g.method = some c := by
    have := h.code
    rw [State.code?_eq] at this ⊢
    simpa [State.pushFrame, State.setFrames] using this
  have hback := setFrames_entered (g := g) h.top (.java (entryFrame m #[.ref a, va_rf r] code.maxLocals))
  have he : entryFrame m #[.ref a, va_rf r] code.maxLocals = F0 m 0 #[.val (.ref a), .val (va_rf r)] [] := by
    rw [hml]
    cases r <;> rfl
  rw [he] at hU hf hmU hcgU hback ⊢
  generalize ((s.setTop g).pushFrame (.java (F0 m 0 #[.val (.ref a), .val (va_rf r)] []))) = U at hU hf hmU hcgU hback
  have hret2 : ∀ (b : Bool) (pc : Nat) (acts' : List Action), (doReturn e (U.setTop (F0 m pc #[.val (.ref a), .val (va_rf r)] [])) acts' (some (.int (bi b)))).1 = s.setTop { g with pc := g.pc + len, stack := .int (bi b) :: g.stack } := by
    intro b pc acts'
    rw [doReturn_leave (g := g) (meth := meth) (cg := c) (ig := ig) (len := len) acts' hf hmU hl rfl rfl hcgU hdg, hback, State.setTop_setTop]
    rfl
  have hlast : ∀ b : Bool, Steps p.tables e below (s.setTop { g with pc := g.pc + len, stack := .int (bi b) :: g.stack }) target → Steps p.tables e below (U.setTop (F0 m 10 #[.val (.ref a), .val (va_rf r)] [.int (bi b)])) target := by
    intro b hb
    unfold F0 at hret2 ⊢
    jvm_step hU [hexec, hbytes, dJ24_equals_10, hmU, hret, bi_nar]
    intro acts'
    rw [hret2]
    exact hb
  unfold F0 at hlast ⊢
  cases r with
  | none =>
    have hb : bi (decide (some a = (none : Option Nat))) = 0 := by simp [bi]
    rw [hb] at hrest
    have hl0 := hlast false hrest
    jvm_step hU [hexec, hbytes, dJ24_equals_0, Value.isRef, va_rf]
    jvm_step hU [hexec, hbytes, dJ24_equals_1, Value.isRef, va_rf]
    jvm_step hU [hexec, hbytes, dJ24_equals_2, Value.asRef?, va_rf, Op.if_acmp.wp_sem, Op.if_acmp.holds]
    jvm_step hU [hexec, hbytes, dJ24_equals_9]
    exact hl0
  | some b =>
    by_cases hab : a = b
    · subst hab
      have hb : bi (decide (some a = some a)) = 1 := by simp [bi]
      rw [hb] at hrest
      have hl0 := hlast true hrest
      jvm_step hU [hexec, hbytes, dJ24_equals_0, Value.isRef, va_rf]
      jvm_step hU [hexec, hbytes, dJ24_equals_1, Value.isRef, va_rf]
      jvm_step hU [hexec, hbytes, dJ24_equals_2, Value.asRef?, va_rf, Op.if_acmp.wp_sem, Op.if_acmp.holds]
      jvm_step hU [hexec, hbytes, dJ24_equals_5]
      jvm_step hU [hexec, hbytes, dJ24_equals_6]
      exact hl0
    · have hb : bi (decide (some a = some b)) = 0 := by simp [bi, hab]
      rw [hb] at hrest
      have hl0 := hlast false hrest
      jvm_step hU [hexec, hbytes, dJ24_equals_0, Value.isRef, va_rf]
      jvm_step hU [hexec, hbytes, dJ24_equals_1, Value.isRef, va_rf]
      jvm_step hU [hexec, hbytes, dJ24_equals_2, Value.asRef?, va_rf, Op.if_acmp.wp_sem, Op.if_acmp.holds, hab]
      jvm_step hU [hexec, hbytes, dJ24_equals_9]
      exact hl0
section HVO
variable {p : Program} {l : Launch} {e : Env} {R : Room} {s : State} {m : MethodId} {args : Array Value} {below : List Frame} {meth : Method} {c : Code} {H : Heap} {locs : List Loc} {cells slots : Nat} {Q : State → Prop}
variable {cc bytes : ByteArray} {pc nL maxL n index : Nat} {ls : Array Slot} {rest st0 As : List Value} {G : GP} {y0 y : HS} {own : String}
theorem hv_objEq {ci a d B N : Nat} {C : String} {T9 : u_T} {fs : List Value} {r : Option Nat} (E : CallFix p m c cc nL s args lw_all own) (hK : Kn G s) (hI : HI G y0 y s H locs) (hr : rd G y a (ob ci fs)) (hci : gcl[ci]? = some (C, T9, N)) (hlink : Cond.methodLink own index yJ24_equals ∈ lw_all) (hsel : Cond.selects C yJ24_equals yJ24_equals ∈ lw_all) (hz : ls.size = nL) (hc : (rest.map fun v => v.category).sum ≤ 8) (hdg : decode cc pc = .ok (.invokevirtual index, 3))
    (kk : W p l e (rmB (d + 1) B) s m args below meth c H locs cells slots Q (F0 m (pc + 3) ls (.int (bi (decide (some a = r))) :: rest))) : W p l e (rmB (d + 1) B) s m args below meth c H locs cells slots Q (F0 m pc ls (va_rf r :: va_rf (some a) :: rest)) := by
  have hts := E.2.2.2.2
  obtain ⟨cellB, hcell, hobj, hcls⟩ := (hI.rd hK hr).recv hK _ T9 N hci
  obtain ⟨cn, ck, r1, hcn, hck, hni, hf, hn1⟩ := Cond.sameMethod_found (hts _ q1524)
  obtain ⟨mk, methM, hnamed, hmethM, hstM, habM⟩ := Cond.instanceMethod_spec (hts _ q1523)
  obtain ⟨methM', cM, hmM', hcM, hbM, hlM, hretM, hlockM, x1, hsigM⟩ := Cond.code_spec hnamed (hts _ q1557)
  cases hmethM.symm.trans hmM'
  cases hnamed.symm.trans hn1
  obtain ⟨c2, r2, m2, q1, q2, q3, q4, kP, hkP, hkPi⟩ := Cond.selects_spec (hts _ hsel)
  cases hcls.symm.trans q1
  cases hf.symm.trans q2
  cases hnamed.symm.trans q3
  intro T hT X
  have hselP : selectMethod e.platform s.vm cellB.cls r1 = .method r1 := by rw [Launch.admits_selectMethod X.admits]; exact q4
  have hlen : [va_rf r].length = methM.sig.parameters.length := by
    have : parseMethodDescriptor yJ24_equals.desc = some ⟨[.object "java/lang/Object"], some .boolean⟩ := by decide +kernel
    have h2 := this.symm.trans hsigM
    rw [← Option.some.inj h2]
    rfl
  obtain ⟨vm₁, X₁, hstep₁⟩ := X.invokevirtualUp E.1 E.2.2.2.1 (hts _ hlink) (hts _ q1524) (by decide +kernel) hnamed hmethM hstM (a := a) (cell := cellB) (by rw [hT]; exact hcell)
    (fun z h => by rw [h] at hobj; cases hobj) hselP hmethM habM hkP hkPi (g := F0 m pc ls (va_rf r :: va_rf (some a) :: rest)) rfl (argsL := [va_rf r]) (rest := rest) hlen rfl (by rw [E.2.1]; exact hdg)
  obtain ⟨t, a1, b1⟩ := kk (T.setVm vm₁) hT X₁
  have hmT : (T.setVm vm₁).vm.method? r1 = some methM := by
    rw [X₁.warmed.alike.method?]; exact hmethM
  have hpl : (T.setVm vm₁).plainMethod r1 := State.plainMethod.of_named (x := yJ24_equals) (by decide +kernel) (X₁.named hnamed) hmT
  refine ⟨t, hstep₁ _ (fun acts => ?_), b1⟩
  refine objeq_steps (g := F0 m pc ls rest) (len := 3) (ig := .invokevirtual index) (c := c) X₁.here E.1 acts hmT hcM hbM hlM hlockM hretM hpl (X₁.notFull (g := F0 m pc ls rest) (by rw [E.2.2.1]; exact hz) (by show 1 ≤ d + 1; omega) ?_) (by rw [E.2.1]; exact hdg) a1
  rw [hlM]
  show 2 * 0 + (rest.map fun v => v.category).sum + (2 + 11) ≤ 46 * (d + 1)
  omega
end HVO
