/-! Calls, ends, throws, copies over the component's heap -/
set_option maxRecDepth 100000
theorem HI.putL {G : GP} {y0 y : HS} {s : State} {H H1 : Heap} {locs L : List Loc} {a : Nat} {e0 e : HE} (h : HI G y0 y s H locs) (h0 : y.1 a = some e0) (he : hat G a e H1) (z : H1.size = H.size) (oq : ∀ q : Nat, q ≠ a → H1[q]? = H[q]?) (hL : ∀ l ∈ L, l.base = a) : HI G y0 (hput y a e) s H1 (locs ++ L) := by
  obtain ⟨h1, h2, h3, h4, h5⟩ := h.put (k := 0) h0 he z oq
  refine ⟨h1, h2, ⟨h3.1, h3.2.1, fun l hl => ?_⟩, h4, h5⟩
  rcases List.mem_append.mp hl with hl | hl
  · exact h3.2.2 l (List.mem_append_left _ hl)
  · rw [hL l hl]
    exact h3.2.2 ⟨a, 0⟩ (List.mem_append_right _ List.mem_cons_self)
theorem hv_fit {u B1 B d : Nat} (h : u + B1 ≤ B) : u + B1 ≤ (rmB d B).cells ∧ 20 * u + 20 * B1 ≤ (rmB d B).slots := ⟨h, by show 20 * u + 20 * B1 ≤ 20 * B; omega⟩
section HVC
variable {p : Program} {l : Launch} {e : Env} {R : Room} {s : State} {m : MethodId} {args : Array Value} {below : List Frame} {meth : Method} {c : Code} {H : Heap} {locs : List Loc} {cells slots : Nat} {Q : State → Prop}
variable {cc bytes : ByteArray} {pc nL maxL n index u B B1 : Nat} {ls : Array Slot} {rest st0 As : List Value} {G : GP} {y0 y : HS} {own : String} {a9 : Array Value}
theorem hv_preV {a ci N : Nat} {C : String} {T : u_T} {fs : List Value} (hK : Kn G s) (hI : HI G y0 y s H locs) (hr : rd G y a (ob ci fs)) (hc : gcl[ci]? = some (C, T, N)) : PreV s H C a (hPc G y (va_rf (some a) :: As)) As := ⟨hPc.blind, (hI.rd hK hr).recv hK C T N hc, fun U hU hW => ⟨rfl, hI.kn hK hU hW, by rw [hU]; exact hI.1⟩⟩
theorem hv_preS (hK : Kn G s) (hI : HI G y0 y s H locs) : PreS s H (hPc G y As) As := ⟨hPc.blind, fun U hU hW => ⟨rfl, hI.kn hK hU hW, by rw [hU]; exact hI.1⟩⟩
theorem HI.sub1 (hI : HI G y0 y s H locs) : ∀ q, q < H.size → HA y q → HA y0 q := by
  intro q hq h
  rcases h with h | h
  · exact hI.2.1 q h
  · have := hI.1.1; omega
theorem HI.sub2 (hI : HI G y0 y s H locs) : ∀ q, HA y q → HA y0 q := by
  intro q h
  rcases h with h | h
  · exact hI.2.1 q h
  · exact Or.inr (Nat.le_trans hI.2.2.2.1 h)
/-- the thrown cell q is of the class ec -/
def xcell (s : State) (H : Heap) (ec q : Nat) : Prop := ∃ ce : Cell, H[q]? = some ce ∧ ce.vm = .none ∧ s.vm.findClass (cnm ec) = some ce.cls
theorem hv_calli {post : Int32 → HS → Prop} {xp : Nat → Nat → HS → Prop} (hI : HI G y0 y s H locs) (hr : vx_Run p l e R s m args below meth c H locs u (20 * u) B1 (20 * B1) (F0 m pc ls st0) rest (hQi G y post a9) (hX G y xp) (HA y))
    (kx : ∀ (ec q : Nat) (y1 : HS) (H1 : Heap) (locs1 : List Loc), xp ec q y1 → HI G y0 y1 s H1 locs1 → xcell s H1 ec q → vx_W p l e R s m args below meth c H1 locs1 (u + B1) (20 * (u + B1)) Q (F0 m pc ls rest) q)
    (kk : ∀ (r : Int32) (y1 : HS) (H1 : Heap) (locs1 : List Loc), post r y1 → HI G y0 y1 s H1 locs1 → W p l e R s m args below meth c H1 locs1 (u + B1) (20 * (u + B1)) Q (F0 m (pc + 3) ls (.int r :: rest))) : W p l e R s m args below meth c H locs u (20 * u) Q (F0 m pc ls st0) := by
  refine vx_calli (A0 := HA y0) (H0 := s.heap) hr hI.2.2.1 hI.sub1 hI.sub2 hI.sub1 (fun E ce q9 w t H1 locs1 ht hvm hp hb hz hk hS hce hcv hcl => ?_) (fun r w t H1 locs1 ht hvm hp hb hz hk hS => ?_)
  · obtain ⟨w1, w2, w3⟩ := w
    obtain ⟨rfl, rfl, hB1, hB2⟩ := hb
    rw [← Nat.mul_add]
    exact kx w2 _ w1 H1 locs1 hp (hI.join (by rw [← ht]; exact hB1) hB2 hz hS) ⟨ce, hce, hcv, hcl⟩
  · rw [← Nat.mul_add]
    exact kk r w H1 locs1 hp (hI.join (by rw [← ht]; exact hb.1) hb.2 hz hS)
theorem hv_callz {post : Bool → HS → Prop} {xp : Nat → Nat → HS → Prop} (hI : HI G y0 y s H locs) (hr : vx_Run p l e R s m args below meth c H locs u (20 * u) B1 (20 * B1) (F0 m pc ls st0) rest (hQz G y post a9) (hX G y xp) (HA y))
    (kx : ∀ (ec q : Nat) (y1 : HS) (H1 : Heap) (locs1 : List Loc), xp ec q y1 → HI G y0 y1 s H1 locs1 → xcell s H1 ec q → vx_W p l e R s m args below meth c H1 locs1 (u + B1) (20 * (u + B1)) Q (F0 m pc ls rest) q)
    (kk : ∀ (b : Bool) (y1 : HS) (H1 : Heap) (locs1 : List Loc), post b y1 → HI G y0 y1 s H1 locs1 → W p l e R s m args below meth c H1 locs1 (u + B1) (20 * (u + B1)) Q (F0 m (pc + 3) ls (.int (bi b) :: rest))) : W p l e R s m args below meth c H locs u (20 * u) Q (F0 m pc ls st0) := by
  refine hv_calli hI hr kx (fun r y1 H1 locs1 hw hI1 => ?_)
  obtain ⟨b, rfl, hw⟩ := hw
  exact kk b y1 H1 locs1 hw hI1
theorem hv_callv {post : HS → Prop} {xp : Nat → Nat → HS → Prop} (hI : HI G y0 y s H locs) (hr : vx_Run p l e R s m args below meth c H locs u (20 * u) B1 (20 * B1) (F0 m pc ls st0) rest (hQv G y post a9) (hX G y xp) (HA y))
    (kx : ∀ (ec q : Nat) (y1 : HS) (H1 : Heap) (locs1 : List Loc), xp ec q y1 → HI G y0 y1 s H1 locs1 → xcell s H1 ec q → vx_W p l e R s m args below meth c H1 locs1 (u + B1) (20 * (u + B1)) Q (F0 m pc ls rest) q)
    (kk : ∀ (y1 : HS) (H1 : Heap) (locs1 : List Loc), post y1 → HI G y0 y1 s H1 locs1 → W p l e R s m args below meth c H1 locs1 (u + B1) (20 * (u + B1)) Q (F0 m (pc + 3) ls rest)) : W p l e R s m args below meth c H locs u (20 * u) Q (F0 m pc ls st0) := by
  refine vx_callv (A0 := HA y0) (H0 := s.heap) hr hI.2.2.1 hI.sub1 hI.sub2 hI.sub1 (fun E ce q9 w t H1 locs1 ht hvm hp hb hz hk hS hce hcv hcl => ?_) (fun w t H1 locs1 ht hvm hp hb hz hk hS => ?_)
  · obtain ⟨w1, w2, w3⟩ := w
    obtain ⟨rfl, rfl, hB1, hB2⟩ := hb
    rw [← Nat.mul_add]
    exact kx w2 _ w1 H1 locs1 hp (hI.join (by rw [← ht]; exact hB1) hB2 hz hS) ⟨ce, hce, hcv, hcl⟩
  · rw [← Nat.mul_add]
    exact kk w H1 locs1 hp (hI.join (by rw [← ht]; exact hb.1) hb.2 hz hS)
theorem hv_callq {post : Option Nat → HS → Prop} {xp : Nat → Nat → HS → Prop} (hI : HI G y0 y s H locs) (hr : vx_Run p l e R s m args below meth c H locs u (20 * u) B1 (20 * B1) (F0 m pc ls st0) rest (hQq G y post a9) (hX G y xp) (HA y))
    (kx : ∀ (ec q : Nat) (y1 : HS) (H1 : Heap) (locs1 : List Loc), xp ec q y1 → HI G y0 y1 s H1 locs1 → xcell s H1 ec q → vx_W p l e R s m args below meth c H1 locs1 (u + B1) (20 * (u + B1)) Q (F0 m pc ls rest) q)
    (kk : ∀ (r : Option Nat) (y1 : HS) (H1 : Heap) (locs1 : List Loc), post r y1 → HI G y0 y1 s H1 locs1 → W p l e R s m args below meth c H1 locs1 (u + B1) (20 * (u + B1)) Q (F0 m (pc + 3) ls (va_rf r :: rest))) : W p l e R s m args below meth c H locs u (20 * u) Q (F0 m pc ls st0) := by
  refine vx_callq (A0 := HA y0) (H0 := s.heap) hr hI.2.2.1 hI.sub1 hI.sub2 hI.sub1 (fun E ce q9 w t H1 locs1 ht hvm hp hb hz hk hS hce hcv hcl => ?_) (fun r w t H1 locs1 ht hvm hp hb hz hk hS => ?_)
  · obtain ⟨w1, w2, w3⟩ := w
    obtain ⟨rfl, rfl, hB1, hB2⟩ := hb
    rw [← Nat.mul_add]
    exact kx w2 _ w1 H1 locs1 hp (hI.join (by rw [← ht]; exact hB1) hB2 hz hS) ⟨ce, hce, hcv, hcl⟩
  · rw [← Nat.mul_add]
    exact kk r w H1 locs1 hp (hI.join (by rw [← ht]; exact hb.1) hb.2 hz hS)
variable {XC : Addr → String → State → State → Prop}
theorem hv_ireti {post : Int32 → HS → Prop} {v : Int32} (E : CallFix p m c cc nL s args lw_all own) (hr : meth.sig.returnType = some .int) (hlocks : meth.locks = false) (hI : HI G y0 y s H locs) (hu : u ≤ B) (hw : post v y) (hdg : decode cc pc = .ok (.ireturn, 1)) : W p l e R s m args below meth c H locs u (20 * u) (vx_MQ below (hQi G y0 post) XC args s B (20 * B) (HA y0)) (F0 m pc ls [.int v]) :=
  W.widen (k := B) (n := 20 * B) hu (by omega) (vx_ret (W.iret (v := v) E.1 E.2.1 hr (fun t ht hW => ⟨⟨v, y, rfl, hw, by rw [ht]; exact hI.1, hI.2.1⟩, hI.2.2.1.F ht⟩) hI.2.2.1.2.2 hdg hlocks))
theorem hv_iretz {post : Bool → HS → Prop} {v : Int32} {b : Bool} (E : CallFix p m c cc nL s args lw_all own) (hr : meth.sig.returnType = some .boolean) (hlocks : meth.locks = false) (hI : HI G y0 y s H locs) (hu : u ≤ B) (hv : v = bi b) (hw : post b y) (hdg : decode cc pc = .ok (.ireturn, 1)) : W p l e R s m args below meth c H locs u (20 * u) (vx_MQ below (hQz G y0 post) XC args s B (20 * B) (HA y0)) (F0 m pc ls [.int v]) := by
  subst hv
  exact W.widen (k := B) (n := 20 * B) hu (by omega) (vx_ret (W.zret (v := bi b) E.1 E.2.1 hr (bi_nar b) (fun t ht hW => ⟨⟨bi b, y, rfl, ⟨b, rfl, hw⟩, by rw [ht]; exact hI.1, hI.2.1⟩, hI.2.2.1.F ht⟩) hI.2.2.1.2.2 hdg hlocks))
/-- a char or a byte is answered -/
theorem hv_iretn {post : Int32 → HS → Prop} {v : Int32} {ty : FieldType} (E : CallFix p m c cc nL s args lw_all own) (hr : meth.sig.returnType = some ty) (hlocks : meth.locks = false) (hI : HI G y0 y s H locs) (hu : u ≤ B) (hn : narrow ty (.int v) = .int v) (hw : post v y) (hdg : decode cc pc = .ok (.ireturn, 1)) : W p l e R s m args below meth c H locs u (20 * u) (vx_MQ below (hQi G y0 post) XC args s B (20 * B) (HA y0)) (F0 m pc ls [.int v]) :=
  W.widen (k := B) (n := 20 * B) hu (by omega) (vx_ret (W.zret (v := v) E.1 E.2.1 hr hn (fun t ht hW => ⟨⟨v, y, rfl, hw, by rw [ht]; exact hI.1, hI.2.1⟩, hI.2.2.1.F ht⟩) hI.2.2.1.2.2 hdg hlocks))
theorem hv_vret {post : HS → Prop} (E : CallFix p m c cc nL s args lw_all own) (hr : meth.sig.returnType = none) (hlocks : meth.locks = false) (hI : HI G y0 y s H locs) (hu : u ≤ B) (hw : post y) (hdg : decode cc pc = .ok (.return_, 1)) : W p l e R s m args below meth c H locs u (20 * u) (vx_MQ below (hQv G y0 post) XC args s B (20 * B) (HA y0)) (F0 m pc ls []) :=
  W.widen (k := B) (n := 20 * B) hu (by omega) (vx_ret (W.vret E.1 E.2.1 hr (fun t ht hW => ⟨⟨y, rfl, hw, by rw [ht]; exact hI.1, hI.2.1⟩, hI.2.2.1.F ht⟩) hI.2.2.1.2.2 hdg hlocks))
theorem hv_aret {post : Option Nat → HS → Prop} {r : Option Nat} {rt : FieldType} (E : CallFix p m c cc nL s args lw_all own) (hr : meth.sig.returnType = some rt) (hrt : (∃ n, rt = .object n) ∨ ∃ t, rt = .array t) (hlocks : meth.locks = false) (hI : HI G y0 y s H locs) (hu : u ≤ B) (hw : post r y) (hdg : decode cc pc = .ok (.areturn, 1)) : W p l e R s m args below meth c H locs u (20 * u) (vx_MQ below (hQq G y0 post) XC args s B (20 * B) (HA y0)) (F0 m pc ls [va_rf r]) :=
  W.widen (k := B) (n := 20 * B) hu (by omega) (vx_ret (W.aret (v := va_rf r) E.1 E.2.1 hr hrt (by cases r with | none => exact Or.inl rfl | some a => exact Or.inr ⟨a, rfl⟩) (fun t ht hW => ⟨⟨r, y, rfl, hw, by rw [ht]; exact hI.1, hI.2.1⟩, hI.2.2.1.F ht⟩) hI.2.2.1.2.2 hdg hlocks))
/-- what is thrown leaves the method -/
theorem hv_out {Qc : Array Value → State → Outcome → State → Prop} {xp : Nat → Nat → HS → Prop} {ec q : Nat} (hE : ∀ x ∈ c.exceptionTable.toList, False) (hlocks : meth.locks = false) (hI : HI G y0 y s H locs) (hq : xcell s H ec q) (hu : u ≤ B) (hw : xp ec q y) : vx_W p l e R s m args below meth c H locs u (20 * u) (vx_MQ below Qc (hX G y0 xp) args s B (20 * B) (HA y0)) (F0 m pc ls rest) q := by
  obtain ⟨ce, h1, h2, h3⟩ := hq
  exact vx_out (fun x hx => (hE x hx).elim) hlocks h1 h2 h3 (fun t ht hvm => ⟨(y, ec, q), hw, ⟨rfl, rfl, by rw [ht]; exact hI.1, hI.2.1⟩, hI.2.2.1.F ht⟩) hI.2.2.1.2.2 hu (by omega)
theorem HI.xcell {ec q : Nat} {fs : List Value} (hK : Kn G s) (hI : HI G y0 y s H locs) (hec : ec < 27) (hr : y.1 q = some (ob ec fs)) : xcell s H ec q := by
  obtain ⟨r, hr1, cell, q1, q2, q3, q4⟩ := (hI.1.2.2 q _ hr).1
  obtain ⟨T, N, hg⟩ := gcl_at hec
  exact ⟨cell, q1, q3, by rw [q2]; exact (hK.1.1 ec _ hg).2.1⟩
theorem hv_athrow {q : Nat} (E : CallFix p m c cc nL s args lw_all own) (hdg : decode cc pc = .ok (.athrow, 1)) (k : vx_W p l e R s m args below meth c H locs cells slots Q (F0 m pc ls rest) q) : W p l e R s m args below meth c H locs cells slots Q (F0 m pc ls (va_rf (some q) :: rest)) := vx_athrow E.1 E.2.1 hdg k
theorem hv_objInit {r : Option Nat} (E : CallFix p m c cc nL s args lw_all own) (hl : Cond.methodLink own index Lib.objectInit ∈ lw_all) (hz : ls.size = nL) (hr : r.isSome = true) {d : Nat} (hc : (rest.map fun v => v.category).sum ≤ 8) (hdg : decode cc pc = .ok (.invokespecial index, 3))
    (kk : W p l e (rmB (d + 1) B) s m args below meth c H locs cells slots Q (F0 m (pc + 3) ls rest)) : W p l e (rmB (d + 1) B) s m args below meth c H locs cells slots Q (F0 m pc ls (va_rf r :: rest)) := by
  cases r with
  | none => cases hr
  | some a => exact W.objInit (a := a) E.1 E.2.1 E.2.2.2.1 (E.2.2.2.2 _ hl) (E.2.2.2.2 _ q194) (E.2.2.2.2 _ q195) rfl (by rw [E.2.2.1]; exact hz) rfl hdg (by show 1 ≤ d + 1; omega) (by show 2 * 0 + _ + 12 ≤ 46 * (d + 1); omega) kk
theorem cp_room (d : Nat) {x : Nat} (hc : x ≤ 8) : 2 * 0 + x + (nativeFrameWords "java/lang/System" "arraycopy" 5 + 11) ≤ 46 * (d + 1) := by
  have : nativeFrameWords "java/lang/System" "arraycopy" 5 ≤ 20 := by decide +kernel
  omega
theorem cp_nn (z : Int32) (hz : ¬ z < 0) : z.toInt = (z.toNatClampNeg : Int) := by
  have hz0 : (0 : Int) ≤ z.toInt := by
    have := Int32.not_lt.mp hz
    simpa using Int32.le_iff_toInt_le.mp this
  show z.toInt = ((z.toInt.toNat : Nat) : Int)
  omega
/-- System.arraycopy of references -/
theorem hv_copyq {a0 a n0 n1 d : Nat} {f g : Nat → Option Nat} {sp dp k : Nat} (E : CallFix p m c cc nL s args lw_all own) (hK : Kn G s) (hI : HI G y0 y s H locs) (hlink : Cond.methodLink own index arraycopyName ∈ lw_all) (hnat : Cond.native arraycopyName ∈ lw_all) (hstat : Cond.static arraycopyName ∈ lw_all) (hini : Cond.initialized "java/lang/System" ∈ lw_all) (hz : ls.size = nL)
    (hr0 : y.1 a0 = some (ar 6 n0 f)) (hr1 : y.1 a = some (ar 6 n1 g)) (h4 : sp + k ≤ n0) (h5 : dp + k ≤ n1) (hb0 : n0 < 2 ^ 20) (hb1 : n1 < 2 ^ 20) (hel : ∀ i, i < k → okO G y (f (sp + i))) (hc : (rest.map fun v => v.category).sum ≤ 8) (hdg : decode cc pc = .ok (.invokestatic index, 3))
    (kk : ∀ (H1 : Heap) (locs1 : List Loc), HI G y0 (hput y a (ar 6 n1 (va_cpy f g sp dp k))) s H1 locs1 → W p l e (rmB (d + 1) B) s m args below meth c H1 locs1 cells slots Q (F0 m (pc + 3) ls rest)) : W p l e (rmB (d + 1) B) s m args below meth c H locs cells slots Q (F0 m pc ls (.int (nI k) :: .int (nI dp) :: va_rf (some a) :: .int (nI sp) :: va_rf (some a0) :: rest)) := by
  have hP20 : (2 : Nat) ^ 20 = 1048576 := rfl
  have hts := E.2.2.2.2
  intro T hT X
  have hc0 : H[a0]? = some (arrV (gA G 6) n0 (fun j => va_rf (f j))) := (hI.1.2.2 a0 _ hr0).1
  have hc1 : H[a]? = some (arrV (gA G 6) n1 (fun j => va_rf (g j))) := (hI.1.2.2 a _ hr1).1
  obtain ⟨-, k0, hk0, cm0, hkk0⟩ := (hK.1.2 6 _ rfl).1 n0 (fun j => va_rf (f j))
  obtain ⟨-, k1, hk1, cm1, hkk1⟩ := (hK.1.2 6 _ rfl).1 n1 (fun j => va_rf (g j))
  have ec : (nI k).toNatClampNeg = k := nI_clamp (by omega)
  have es : (nI sp).toNatClampNeg = sp := nI_clamp (by omega)
  have ed : (nI dp).toNatClampNeg = dp := nI_clamp (by omega)
  obtain ⟨vm', X', step⟩ := X.arraycopy E.1 E.2.2.2.1 (hts _ hlink) (hts _ hnat) (hts _ hstat) (hts _ hini) (src := a0) (dst := a) (cs := arrV (gA G 6) n0 (fun j => va_rf (f j))) (cd := arrV (gA G 6) n1 (fun j => va_rf (g j))) (srcPos := nI sp) (destPos := nI dp) (n := nI k) (by rw [hT]; exact hc0) (by rw [hT]; exact hc1)
    (fun _ h => by cases h) (fun _ h => by cases h) (fun h => by cases h) (fun h => by cases h) hk0 hk1 hkk0 hkk1 rfl (nI_pos (by omega)) (nI_pos (by omega)) (nI_pos (by omega))
    (by rw [nI_toInt (by omega), nI_toInt (by omega), arrV_size]; omega)
    (by rw [nI_toInt (by omega), nI_toInt (by omega), arrV_size]; omega)
    (fun vm₁ hal i hi => by
      rw [ec] at hi
      rw [es]
      have e : (arrV (gA G 6) n0 (fun j => va_rf (f j))).slots.getD (sp + i) .null = va_rf (f (sp + i)) := by
        rw [Array.getD_eq_getD_getElem?, arrV_read _ _ (by omega)]
        rfl
      rw [e]
      cases hy : f (sp + i) with
      | none => exact ⟨rfl, trivial⟩
      | some v =>
        obtain ⟨ci, fs, hci, hrd⟩ := hel i hi v hy
        obtain ⟨T9, N9, hg9⟩ := gcl_at hci
        obtain ⟨cellV, g1, g2, g3⟩ := (hI.rd hK hrd).recv hK _ T9 N9 hg9
        obtain ⟨kA, comp, r1, r2, r3, -⟩ := (hK.1.2 6 _ rfl).2
        cases hk1.symm.trans r1
        cases hkk1.symm.trans r2
        obtain ⟨kC, hkC, -⟩ := Vm.findClass_spec g3
        obtain ⟨kE, hkE, -⟩ := Vm.findClass_spec r3
        obtain ⟨kC', hkC', -⟩ := hal.2.2 _ _ hkC
        obtain ⟨kE', hkE', -⟩ := hal.2.2 _ _ hkE
        refine ⟨rfl, cellV, (show T.heap[v]? = some cellV by rw [hT]; exact g1), (fun q h => by rw [h] at g2; cases g2), ⟨kC', hkC'⟩, ?_, ?_⟩
        · exact ⟨kE', hkE'⟩
        · show vm₁.assignable _ _ = true
          rw [hal.assignable]
          exact hK.castO hci r3 g3)
    (g := F0 m pc ls (.int (nI k) :: .int (nI dp) :: .ref a :: .int (nI sp) :: .ref a0 :: rest)) rfl (by rw [E.2.2.1]; exact hz) (rest := rest) rfl (by rw [E.2.1]; exact hdg) (by show 1 ≤ d + 1; omega) (cp_room d hc)
  have e1 : copied (arrV (gA G 6) n0 (fun j => va_rf (f j))) (arrV (gA G 6) n1 (fun j => va_rf (g j))) (nI sp) (nI dp) (nI k) = arrV (gA G 6) n1 (fun j => va_rf (va_cpy f g sp dp k j)) := by
    have := va_copied (fun z => va_rf z) (gA G 6) (gA G 6) (n0 := n0) (n1 := n1) (sp := (nI sp).toNatClampNeg) (dp := (nI dp).toNatClampNeg) (n := (nI k).toNatClampNeg) f g (by rw [es, ec]; exact h4)
    rw [es, ed, ec] at this
    rw [← this]
    show Cell.storeRun _ _ _ = _
    rw [es, ed, ec]
  rw [e1] at X' step
  have hl : a < H.size := (Array.getElem?_eq_some_iff.mp hc1).1
  have hheap : ((T.setVm vm').setCell a (arrV (gA G 6) n1 (fun j => va_rf (va_cpy f g sp dp k j)))).heap = H.setIfInBounds a (arrV (gA G 6) n1 (fun j => va_rf (va_cpy f g sp dp k j))) := by rw [← hT]; rfl
  have oq : ∀ q : Nat, q ≠ a → (H.setIfInBounds a (arrV (gA G 6) n1 (fun j => va_rf (va_cpy f g sp dp k j))))[q]? = H[q]? := fun q hq => by simp [Array.getElem?_setIfInBounds, Ne.symm hq]
  obtain ⟨t, a1, b1⟩ := kk _ _ (hI.putL (L := _) hr1 (show (H.setIfInBounds a _)[a]? = some _ by simp [Array.getElem?_setIfInBounds, hl]; rfl) (by simp) oq (fun q h => by
      obtain ⟨z, -, hz⟩ := List.mem_map.mp h
      rw [← hz])) _ hheap X'
  exact ⟨t, step t a1, b1⟩
/-- System.arraycopy of bytes -/
theorem hv_copyb {a0 a n0 n1 d : Nat} {f g : Nat → Int32} {sp dp k : Nat} (E : CallFix p m c cc nL s args lw_all own) (hK : Kn G s) (hI : HI G y0 y s H locs) (hlink : Cond.methodLink own index arraycopyName ∈ lw_all) (hnat : Cond.native arraycopyName ∈ lw_all) (hstat : Cond.static arraycopyName ∈ lw_all) (hini : Cond.initialized "java/lang/System" ∈ lw_all) (hz : ls.size = nL)
    (hr0 : y.1 a0 = some (ai 3 n0 f)) (hr1 : y.1 a = some (ai 3 n1 g)) (h4 : sp + k ≤ n0) (h5 : dp + k ≤ n1) (hb0 : n0 < 2 ^ 20) (hb1 : n1 < 2 ^ 20) (hel : ∀ i, i < k → fits .byte (.int (f (sp + i))) = true) (hc : (rest.map fun v => v.category).sum ≤ 8) (hdg : decode cc pc = .ok (.invokestatic index, 3))
    (kk : ∀ (H1 : Heap) (locs1 : List Loc), HI G y0 (hput y a (ai 3 n1 (va_cpy f g sp dp k))) s H1 locs1 → W p l e (rmB (d + 1) B) s m args below meth c H1 locs1 cells slots Q (F0 m (pc + 3) ls rest)) : W p l e (rmB (d + 1) B) s m args below meth c H locs cells slots Q (F0 m pc ls (.int (nI k) :: .int (nI dp) :: va_rf (some a) :: .int (nI sp) :: va_rf (some a0) :: rest)) := by
  have hP20 : (2 : Nat) ^ 20 = 1048576 := rfl
  have hts := E.2.2.2.2
  intro T hT X
  have hc0 : H[a0]? = some (arrV (gA G 3) n0 (fun j => .int (f j))) := (hI.1.2.2 a0 _ hr0).1
  have hc1 : H[a]? = some (arrV (gA G 3) n1 (fun j => .int (g j))) := (hI.1.2.2 a _ hr1).1
  obtain ⟨-, k0, hk0, cm0, hkk0⟩ := (hK.1.2 3 _ rfl).1 n0 (fun j => .int (f j))
  obtain ⟨-, k1, hk1, cm1, hkk1⟩ := (hK.1.2 3 _ rfl).1 n1 (fun j => .int (g j))
  have ec : (nI k).toNatClampNeg = k := nI_clamp (by omega)
  have es : (nI sp).toNatClampNeg = sp := nI_clamp (by omega)
  have ed : (nI dp).toNatClampNeg = dp := nI_clamp (by omega)
  obtain ⟨vm', X', step⟩ := X.arraycopy E.1 E.2.2.2.1 (hts _ hlink) (hts _ hnat) (hts _ hstat) (hts _ hini) (src := a0) (dst := a) (cs := arrV (gA G 3) n0 (fun j => .int (f j))) (cd := arrV (gA G 3) n1 (fun j => .int (g j))) (srcPos := nI sp) (destPos := nI dp) (n := nI k) (by rw [hT]; exact hc0) (by rw [hT]; exact hc1)
    (fun _ h => by cases h) (fun _ h => by cases h) (fun h => by cases h) (fun h => by cases h) hk0 hk1 hkk0 hkk1 (by simp [refKind]) (nI_pos (by omega)) (nI_pos (by omega)) (nI_pos (by omega))
    (by rw [nI_toInt (by omega), nI_toInt (by omega), arrV_size]; omega)
    (by rw [nI_toInt (by omega), nI_toInt (by omega), arrV_size]; omega)
    (fun vm₁ hal i hi => by
      rw [ec] at hi
      rw [es]
      have e : (arrV (gA G 3) n0 (fun j => .int (f j))).slots.getD (sp + i) .null = .int (f (sp + i)) := by
        rw [Array.getD_eq_getD_getElem?, arrV_read _ _ (by omega)]
        rfl
      rw [e]
      exact ⟨hel i hi, trivial⟩)
    (g := F0 m pc ls (.int (nI k) :: .int (nI dp) :: .ref a :: .int (nI sp) :: .ref a0 :: rest)) rfl (by rw [E.2.2.1]; exact hz) (rest := rest) rfl (by rw [E.2.1]; exact hdg) (by show 1 ≤ d + 1; omega) (cp_room d hc)
  have e1 : copied (arrV (gA G 3) n0 (fun j => .int (f j))) (arrV (gA G 3) n1 (fun j => .int (g j))) (nI sp) (nI dp) (nI k) = arrV (gA G 3) n1 (fun j => .int (va_cpy f g sp dp k j)) := by
    have := va_copied (fun z => .int z) (gA G 3) (gA G 3) (n0 := n0) (n1 := n1) (sp := (nI sp).toNatClampNeg) (dp := (nI dp).toNatClampNeg) (n := (nI k).toNatClampNeg) f g (by rw [es, ec]; exact h4)
    rw [es, ed, ec] at this
    rw [← this]
    show Cell.storeRun _ _ _ = _
    rw [es, ed, ec]
  rw [e1] at X' step
  have hl : a < H.size := (Array.getElem?_eq_some_iff.mp hc1).1
  have hheap : ((T.setVm vm').setCell a (arrV (gA G 3) n1 (fun j => .int (va_cpy f g sp dp k j)))).heap = H.setIfInBounds a (arrV (gA G 3) n1 (fun j => .int (va_cpy f g sp dp k j))) := by rw [← hT]; rfl
  have oq : ∀ q : Nat, q ≠ a → (H.setIfInBounds a (arrV (gA G 3) n1 (fun j => .int (va_cpy f g sp dp k j))))[q]? = H[q]? := fun q hq => by simp [Array.getElem?_setIfInBounds, Ne.symm hq]
  obtain ⟨t, a1, b1⟩ := kk _ _ (hI.putL (L := _) hr1 (show (H.setIfInBounds a _)[a]? = some _ by simp [Array.getElem?_setIfInBounds, hl]; rfl) (by simp) oq (fun q h => by
      obtain ⟨z, -, hz⟩ := List.mem_map.mp h
      rw [← hz])) _ hheap X'
  exact ⟨t, step t a1, b1⟩
end HVC
