/-! Rows for handlers and for what the machine throws -/
set_option maxRecDepth 100000
def mkE (q : Nat × Nat × Nat × Nat) : ExceptionTableEntry := ⟨q.1, q.2.1, q.2.2.1, q.2.2.2⟩
theorem hv_metH {l : Launch} {G : GP} {y : MethodName} {own : String} {cc : ByteArray} {maxL D B : Nat} {ret : Option FieldType} {av : List Value} {y0 : HS} {Qc : Array Value → State → Outcome → State → Prop} {XC : Addr → String → State → State → Prop} {hh : List (Nat × Nat × Nat × Nat)} (hy : plainName y.cls = true) (hcls : y.cls = own) (hn : (lg_sl av).length ≤ maxL)
    (body : ∀ (p : Program) (e : Env) (s : State) (m : MethodId) (args : Array Value) (below : List Frame) (meth : Method) (c : Code) (ls : Array Slot), CallFix p m c cc maxL s args lw_all own → meth.sig.returnType = ret → meth.locks = false → meth.name = y.name → c.exceptionTable.toList = hh.map mkE → Kn G s → HI G y0 y0 s s.heap [] → lv_has ls maxL (lv_args 0 av) → W p l e (rmB D B) s m args below meth c s.heap [] 0 0 (vx_MQ below Qc XC args s B (20 * B) (HA y0)) (F0 m 0 ls [])) :
    vx_Met l y (wsW_ y cc maxL ret hh) (rmB D B) (hPc G y0 av) Qc XC B (20 * B) (HA y0) := by
  refine vx_ofWH (cc := cc) (maxL := maxL) (ret := ret) (hh := hh) hy rfl ?_
  intro p e s m args below meth c s₁ B hml hv
  obtain ⟨ha, hK, hT⟩ := hv
  have hts0 := atoms_spec (ws := wsW_ y cc maxL ret hh) B.pre
  have hts : ∀ w ∈ lw_all, w.before args s = true := fun w h => hts0 w (List.mem_cons_of_mem _ h)
  have hown : s.vm.findClass own = some m.cls := by rw [← hcls]; exact findClass_of_methodNamed B.named
  have hl := lv_entry av (n := maxL) hn
  refine W.eq (g2 := F0 m 0 ((lg_sl av ++ List.replicate (maxL - (lg_sl av).length) Slot.unset).toArray) []) (by rw [ha]; exact lg_entry_eq m av maxL) ?_
  exact body p e s m args below meth c _ ⟨B.exec, B.bytes, hml, hown, hts⟩ B.returns B.notSynchronized (name_of_methodNamed B.named B.method).1 (vx_table (x := y) B (hts0 _ List.mem_cons_self)) hK (HI.start hT) hl
theorem at_N1 : ∀ w ∈ vx_atN 8, w ∈ lw_tbl := by decide +kernel
theorem at_N2 : ∀ w ∈ vx_atN 8, goodWord w = true ∨ nwOK w = true := by decide +kernel
theorem at_N3 : ∀ w ∈ vx_atN 8, vx_ot w = true := by decide +kernel
theorem at_A1 : ∀ w ∈ vx_atM "java/lang/ArrayIndexOutOfBoundsException" ["java/lang/IndexOutOfBoundsException", "java/lang/RuntimeException", "java/lang/Exception"], w ∈ lw_tbl := by decide +kernel
theorem at_A2 : ∀ w ∈ vx_atM "java/lang/ArrayIndexOutOfBoundsException" ["java/lang/IndexOutOfBoundsException", "java/lang/RuntimeException", "java/lang/Exception"], goodWord w = true ∨ nwOK w = true := by decide +kernel
theorem at_A3 : ∀ w ∈ vx_atM "java/lang/ArrayIndexOutOfBoundsException" ["java/lang/IndexOutOfBoundsException", "java/lang/RuntimeException", "java/lang/Exception"], vx_ot w = true := by decide +kernel
theorem at_S1 : ∀ w ∈ vx_at0 "CaseGrouper" 190 "java/util/NoSuchElementException" ["java/lang/RuntimeException", "java/lang/Exception"], w ∈ lw_tbl := by decide +kernel
theorem at_S2 : ∀ w ∈ vx_at0 "CaseGrouper" 190 "java/util/NoSuchElementException" ["java/lang/RuntimeException", "java/lang/Exception"], goodWord w = true ∨ nwOK w = true := by decide +kernel
theorem at_S3 : ∀ w ∈ Cond.classLink "CaseGrouper" 188 "java/util/NoSuchElementException" :: Cond.initialized "java/util/NoSuchElementException" :: vx_at0 "CaseGrouper" 190 "java/util/NoSuchElementException" ["java/lang/RuntimeException", "java/lang/Exception"], vx_ot w = true := by decide +kernel
theorem at_S4 : ∀ w ∈ [Cond.classLink "CaseGrouper" 188 "java/util/NoSuchElementException", Cond.initialized "java/util/NoSuchElementException"], w ∈ lw_all := by decide +kernel
section HVH
variable {p : Program} {l : Launch} {e : Env} {R : Room} {s : State} {m : MethodId} {args : Array Value} {below : List Frame} {meth : Method} {c : Code} {H : Heap} {locs : List Loc} {cells slots : Nat} {Q : State → Prop}
variable {cc bytes : ByteArray} {pc nL maxL n index u B : Nat} {ls : Array Slot} {rest st0 As : List Value} {G : GP} {y0 y : HS} {own : String}
theorem cast_in {C : String} (hK : Kn G s) (h : Cond.castable C C ∈ lw_tbl) : (Cond.castable C C).before args s = true := va_Nw.use rfl (hK.2.2.2.2.1 _ h rfl)
theorem hv_catch0 {ec q a b h ct : Nat} {suf : List (Nat × Nat × Nat × Nat)} (E : CallFix p m c cc nL s args lw_all own) (hK : Kn G s) (hE : c.exceptionTable.toList = ((a, b, h, ct) :: suf).map mkE) (hcov : covers (mkE (a, b, h, ct)) pc = true) (hct : ct ≠ 0) (hlink : Cond.classLink own ct (cnm ec) ∈ lw_all) (hcast : Cond.castable (cnm ec) (cnm ec) ∈ lw_tbl) (hx : xcell s H ec q)
    (kk : W p l e R s m args below meth c H locs cells slots Q (F0 m h ls [va_rf (some q)])) : vx_W p l e R s m args below meth c H locs cells slots Q (F0 m pc ls rest) q := by
  obtain ⟨ce, h1, h2, h3⟩ := hx
  exact vx_catch (own := own) (name := cnm ec) (E := cnm ec) E.2.2.2.1 [] (mkE (a, b, h, ct)) (suf.map mkE) hE (fun z hz => nomatch hz) hcov hct (E.2.2.2.2 _ hlink) (cast_in hK hcast) h1 h2 h3 kk
theorem hv_catch1 {ec e0 q a b h ct a0 b0 h0 ct0 : Nat} {suf : List (Nat × Nat × Nat × Nat)} (E : CallFix p m c cc nL s args lw_all own) (hK : Kn G s) (hE : c.exceptionTable.toList = ((a0, b0, h0, ct0) :: (a, b, h, ct) :: suf).map mkE) (hct0 : ct0 ≠ 0) (hlink0 : Cond.classLink own ct0 (cnm e0) ∈ lw_all) (hnc : (cnm ec, cnm e0) ∈ ncTab) (hcov : covers (mkE (a, b, h, ct)) pc = true) (hct : ct ≠ 0) (hlink : Cond.classLink own ct (cnm ec) ∈ lw_all) (hcast : Cond.castable (cnm ec) (cnm ec) ∈ lw_tbl) (hx : xcell s H ec q)
    (kk : W p l e R s m args below meth c H locs cells slots Q (F0 m h ls [va_rf (some q)])) : vx_W p l e R s m args below meth c H locs cells slots Q (F0 m pc ls rest) q := by
  obtain ⟨ce, h1, h2, h3⟩ := hx
  refine vx_catch (own := own) (name := cnm ec) (E := cnm ec) E.2.2.2.1 [mkE (a0, b0, h0, ct0)] (mkE (a, b, h, ct)) (suf.map mkE) hE (fun z hz => ?_) hcov hct (E.2.2.2.2 _ hlink) (cast_in hK hcast) h1 h2 h3 kk
  rw [List.mem_singleton.mp hz]
  exact Or.inr ⟨hct0, cnm e0, E.2.2.2.2 _ hlink0, hK.2.2.2.2.2.1 _ hnc⟩
theorem hv_outH {Qc : Array Value → State → Outcome → State → Prop} {xp : Nat → Nat → HS → Prop} {ec q : Nat} (E : CallFix p m c cc nL s args lw_all own) (hlocks : meth.locks = false) (hpass : ∀ z ∈ c.exceptionTable.toList, covers z pc = false) (hI : HI G y0 y s H locs) (hq : xcell s H ec q) (hu : u ≤ B) (hw : xp ec q y) : vx_W p l e R s m args below meth c H locs u (20 * u) (vx_MQ below Qc (hX G y0 xp) args s B (20 * B) (HA y0)) (F0 m pc ls rest) q := by
  obtain ⟨ce, h1, h2, h3⟩ := hq
  exact vx_outP (own := own) E.2.2.2.1 hlocks (fun z hz => Or.inl (hpass z hz)) h1 h2 h3 (fun t ht hvm => ⟨(y, ec, q), hw, ⟨rfl, rfl, by rw [ht]; exact hI.1, hI.2.1⟩, hI.2.2.1.F ht⟩) hI.2.2.1.2.2 hu (by omega)
theorem hv_outP2 {Qc : Array Value → State → Outcome → State → Prop} {xp : Nat → Nat → HS → Prop} {ec q e0 e1 a0 b0 h0 ct0 a1 b1 h1 ct1 : Nat} (E : CallFix p m c cc nL s args lw_all own) (hK : Kn G s) (hE : c.exceptionTable.toList = [(a0, b0, h0, ct0), (a1, b1, h1, ct1)].map mkE) (hc0 : ct0 ≠ 0) (hc1 : ct1 ≠ 0) (hl0 : Cond.classLink own ct0 (cnm e0) ∈ lw_all) (hl1 : Cond.classLink own ct1 (cnm e1) ∈ lw_all) (hn0 : (cnm ec, cnm e0) ∈ ncTab) (hn1 : (cnm ec, cnm e1) ∈ ncTab) (hlocks : meth.locks = false) (hI : HI G y0 y s H locs) (hq : xcell s H ec q) (hu : u ≤ B) (hw : xp ec q y) : vx_W p l e R s m args below meth c H locs u (20 * u) (vx_MQ below Qc (hX G y0 xp) args s B (20 * B) (HA y0)) (F0 m pc ls rest) q := by
  obtain ⟨ce, h1, h2, h3⟩ := hq
  refine vx_outP (own := own) E.2.2.2.1 hlocks (fun z hz => ?_) h1 h2 h3 (fun t ht hvm => ⟨(y, ec, q), hw, ⟨rfl, rfl, by rw [ht]; exact hI.1, hI.2.1⟩, hI.2.2.1.F ht⟩) hI.2.2.1.2.2 hu (by omega)
  rw [hE] at hz
  simp only [List.map_cons, List.map_nil, List.mem_cons, List.not_mem_nil, or_false] at hz
  rcases hz with rfl | rfl
  · exact Or.inr ⟨hc0, cnm e0, E.2.2.2.2 _ hl0, hK.2.2.2.2.2.1 _ hn0⟩
  · exact Or.inr ⟨hc1, cnm e1, E.2.2.2.2 _ hl1, hK.2.2.2.2.2.1 _ hn1⟩
/-- what the machine throws: whoever comes after it -/
abbrev XK (p : Program) (l : Launch) (e : Env) (R : Room) (s : State) (m : MethodId) (args : Array Value) (below : List Frame) (meth : Method) (c : Code) (locs : List Loc) (u : Nat) (Q : State → Prop) (g : JFrame) (G : GP) (y0 y : HS) (K : Nat) : Prop := ∀ (q : Nat) (y2 : HS) (H1 : Heap), y2.1 = y.1 → y.2 ≤ y2.2 → HI G y0 y2 s H1 locs → xcell s H1 K q → vx_W p l e R s m args below meth c H1 locs (u + 60) (20 * (u + 60)) Q g q
theorem Kn.zU (hK : Kn G s) (hI : HI G y0 y s H locs) : vx_Zq Bundle.tN "UNASSIGNED_STACK" Bundle.steD (HA y0) s s.heap := (hK.2.2.2.2.2.2.2.2.2.2.2.2.2.2.1.narrow hI.2.2.2.2).kept (fun a ha _ => hK.2.1 a ha)
theorem Kn.zN (hK : Kn G s) (hI : HI G y0 y s H locs) : vx_Zq Bundle.tN "SUPPRESSED_SENTINEL" Bundle.listD (HA y0) s s.heap := (hK.2.2.2.2.2.2.2.2.2.2.2.2.2.2.2.1.narrow hI.2.2.2.2).kept (fun a ha _ => hK.2.1 a ha)
theorem nw_use {w : Cond} (hw : nwOK w = true) (h : va_Nw w s) : w.before args s = true := by
  unfold nwOK at hw
  split at hw
  · exact va_Nw.use rfl h
  · exact va_Nw.use rfl h
  · exact va_Nw.use rfl h
  · exact va_Nw.use rfl h
  · cases hw
theorem tb_use {L : List Cond} (E : CallFix p m c cc nL s args lw_all own) (hK : Kn G s) (h1 : ∀ w ∈ L, w ∈ lw_tbl) (h2 : ∀ w ∈ L, goodWord w = true ∨ nwOK w = true) : ∀ w ∈ L, w.before args s = true := fun w hw => by
  rcases h2 w hw with g | g
  · exact E.2.2.2.2 w (lw_g (h1 w hw) g)
  · exact nw_use g (hK.2.2.2.2.1 w (h1 w hw) g)
/-- after the machine has thrown: the old cells are there still -/
theorem HI.thrown {H1 : Heap} (hI : HI G y0 y s H locs) (hs : H.size ≤ H1.size) (hk : ∀ q : Nat, q < H.size → H1[q]? = H[q]?) (hS : va_S (HA y0) s.heap H1 locs) : HI G y0 (y.1, H1.size) s H1 locs := by
  obtain ⟨⟨a1, a2, a3⟩, b, c, d, f⟩ := hI
  refine ⟨⟨rfl, by show (gH G).size ≤ H1.size; omega, fun a x hx => ?_⟩, b, hS, by show y0.2 ≤ H1.size; omega, f⟩
  obtain ⟨z1, z2⟩ := a3 a x hx
  exact ⟨z1.kept (hk a z1.lt), z2⟩
theorem hv_npe0 {d : Nat} (htr : l.stackTraces = false) (E : CallFix p m c cc nL s args lw_all own) (hK : Kn G s) (hI : HI G y0 y s H locs) (hlocks : meth.locks = false) (hz : ls.size = nL) (hu : u + 60 ≤ B) (hc : (rest.map fun v => v.category).sum ≤ 8)
    (kk : XK p l e (rmB (d + 225) B) s m args below meth c locs u Q (F0 m pc ls rest) G y0 y 25) : vx_NoteN p l e (rmB (d + 225) B) s m args below meth c H locs u (20 * u) Q (F0 m pc ls rest) := by
  refine vx_npe (nb := 8) E.1 htr (tb_use E hK at_N1 at_N2) at_N3 (hK.zU hI) (hK.zN hI) hI.2.2.1 (by rw [E.2.2.1]; exact hz) (by show 7 < d + 225; omega) (by show _ + 10240 ≤ 46 * (d + 225); omega) (by show u + 1 ≤ B; omega) (by show 20 * u + 8 ≤ 20 * B; omega) hlocks (fun H1 q9 ce h1 h2 h3 h4 h5 h6 => ?_)
  exact vx_widen (by omega) (by omega) (kk q9 (y.1, H1.size) H1 rfl (by show y.2 ≤ H1.size; have := hI.1.1; omega) (hI.thrown h1 h2 h3) ⟨ce, h4, h5, h6⟩)
theorem hv_npeL {d : Nat} (htr : l.stackTraces = false) (E : CallFix p m c cc nL s args lw_all own) (hK : Kn G s) (hI : HI G y0 y s H locs) (hlocks : meth.locks = false) (hz : ls.size = nL) (hu : u + 60 ≤ B) (hc : (rest.map fun v => v.category).sum ≤ 8) (hdg : decode cc pc = .ok (.arraylength, 1))
    (kk : XK p l e (rmB (d + 225) B) s m args below meth c locs u Q (F0 m pc ls rest) G y0 y 25) : W p l e (rmB (d + 225) B) s m args below meth c H locs u (20 * u) Q (F0 m pc ls (va_rf none :: rest)) :=
  vx_arraylengthN E.1 E.2.1 hdg (hv_npe0 htr E hK hI hlocks hz hu hc kk)
theorem hv_npeI {d maxL : Nat} {y9 : MethodName} {ret : Option FieldType} (htr : l.stackTraces = false) (E : CallFix p m c cc nL s args lw_all own) (hK : Kn G s) (hI : HI G y0 y s H locs) (hlocks : meth.locks = false) (hz : ls.size = nL) (h1 : Cond.methodLink own index y9 ∈ lw_all) (h2 : Cond.instanceMethod y9 ∈ lw_all) (h3 : Cond.code y9 bytes maxL ret ∈ lw_all) (h4 : Cond.selects y9.cls y9 y9 ∈ lw_all) (h5 : y9.cls ≠ "java/lang/invoke/MethodHandle" ∧ y9.cls ≠ "java/lang/invoke/VarHandle" ∧ (parseMethodDescriptor y9.desc).map (fun d => d.parameters.length) = some 0) (hu : u + 60 ≤ B) (hc : (rest.map fun v => v.category).sum ≤ 8) (hdg : decode cc pc = .ok (.invokevirtual index, 3))
    (kk : XK p l e (rmB (d + 225) B) s m args below meth c locs u Q (F0 m pc ls rest) G y0 y 25) : W p l e (rmB (d + 225) B) s m args below meth c H locs u (20 * u) Q (F0 m pc ls (va_rf none :: rest)) :=
  vx_invokeN (As := []) E.1 E.2.1 E.2.2.2.1 (E.2.2.2.2 _ h1) (E.2.2.2.2 _ h2) (E.2.2.2.2 _ h3) (E.2.2.2.2 _ h4) ⟨h5.1, h5.2.1⟩ h5.2.2 hdg (hv_npe0 htr E hK hI hlocks hz hu hc kk) rfl
theorem hv_npeF {ci N d : Nat} {C ref host : String} {T : u_T} {ty : Nat → FieldType} (htr : l.stackTraces = false) (E : CallFix p m c cc nL s args lw_all own) (hK : Kn G s) (hI : HI G y0 y s H locs) (hlocks : meth.locks = false) (hz : ls.size = nL) (K : CI ci C T N ty) (k : Nat) (hk : k < N) (hl : Cond.fieldLinkNest own index ref (T k).2.1 (T k).2.2.1 host ∈ lw_tbl) (hsame : ∀ x, s.fieldFound? (T k).1 (T k).2.1 (T k).2.2.1 = some x → s.fieldFound? ref (T k).2.1 (T k).2.2.1 = some x) (hu : u + 60 ≤ B) (hc : (rest.map fun v => v.category).sum ≤ 8) (hdg : decode cc pc = .ok (.getfield index, 3))
    (kk : XK p l e (rmB (d + 225) B) s m args below meth c locs u Q (F0 m pc ls rest) G y0 y 25) : W p l e (rmB (d + 225) B) s m args below meth c H locs u (20 * u) Q (F0 m pc ls (va_rf none :: rest)) :=
  vx_getfNN E.1 E.2.1 E.2.2.2.2 K.2.1 E.2.2.2.1 hK.1 K.1 k hk (nw_use rfl (hK.2.2.2.2.1 _ hl rfl)) hsame hdg (hv_npe0 htr E hK hI hlocks hz hu hc kk)
theorem hv_aio0 {d k : Nat} {i : Int32} (htr : l.stackTraces = false) (E : CallFix p m c cc nL s args lw_all own) (hK : Kn G s) (hI : HI G y0 y s H locs) (hlocks : meth.locks = false) (hz : ls.size = nL) (hk : k < 2 ^ 31) (hu : u + 60 ≤ B) (hc : (rest.map fun v => v.category).sum ≤ 8)
    (kk : XK p l e (rmB (d + 225) B) s m args below meth c locs u Q (F0 m pc ls rest) G y0 y 26) : vx_Note p l e (rmB (d + 225) B) s m args below meth c H locs u (20 * u) Q (F0 m pc ls rest) "java/lang/ArrayIndexOutOfBoundsException" (toString "Index " ++ toString i ++ toString " out of bounds for length " ++ toString k : String) := by
  refine vx_vm (nb := 212) (names := ["java/lang/IndexOutOfBoundsException", "java/lang/RuntimeException", "java/lang/Exception"]) E.1 htr (by decide +kernel) (by decide +kernel) (by decide +kernel) (by decide +kernel) (tb_use E hK at_A1 at_A2) at_A3 (hK.zU hI) (hK.zN hI) hI.2.2.1 (by rw [E.2.2.1]; exact hz) (index_text_modelled i k) (index_text_bytes i hk) (by decide) (by show 3 + 4 < d + 225; omega) (by show _ + 10240 ≤ 46 * (d + 225); omega) (by decide) (by show u + 3 ≤ B; omega) (by show 20 * u + (212 + 10) ≤ 20 * B; omega) hlocks (fun H1 q9 ce h1 h2 h3 h4 h5 h6 => ?_)
  exact vx_widen (by omega) (by omega) (kk q9 (y.1, H1.size) H1 rfl (by show y.2 ≤ H1.size; have := hI.1.1; omega) (hI.thrown h1 h2 h3) ⟨ce, h4, h5, h6⟩)
theorem hv_aioC {a k d : Nat} {g : Nat → Int32} {i : Int32} (htr : l.stackTraces = false) (E : CallFix p m c cc nL s args lw_all own) (hK : Kn G s) (hI : HI G y0 y s H locs) (hlocks : meth.locks = false) (hz : ls.size = nL) (hr : rd G y a (ai 4 k g)) (hk : k < 2 ^ 31) (hout : ¬ vp_in i k) (hu : u + 60 ≤ B) (hc : (rest.map fun v => v.category).sum ≤ 8) (hdg : decode cc pc = .ok (.caload, 1))
    (kk : XK p l e (rmB (d + 225) B) s m args below meth c locs u Q (F0 m pc ls rest) G y0 y 26) : W p l e (rmB (d + 225) B) s m args below meth c H locs u (20 * u) Q (F0 m pc ls (.int i :: va_rf (some a) :: rest)) := by
  obtain ⟨cell, h1, h2, h3, h4, h5, -⟩ := gt_arr hK rfl (hI.rd hK hr)
  intro T hT X
  obtain ⟨t, st, q⟩ := hv_aio0 (i := i) (k := k) htr E hK hI hlocks hz hk hu hc kk T hT X
  refine ⟨t, ?_, q⟩
  have z := X.caloadOut E.1 (by rw [hT]; exact h1) h2 (j := i) (by show (i < 0 ∨ cell.slots.size ≤ _); rw [h4]; exact Classical.byContradiction hout) (g := F0 m pc ls (.int i :: va_rf (some a) :: rest)) rfl (rest := rest) rfl (by rw [E.2.1]; exact hdg) t
  rw [h4] at z
  exact z st
theorem hv_aioA {a k d : Nat} {g : Nat → Option Nat} {i : Int32} (htr : l.stackTraces = false) (E : CallFix p m c cc nL s args lw_all own) (hK : Kn G s) (hI : HI G y0 y s H locs) (hlocks : meth.locks = false) (hz : ls.size = nL) (hr : rd G y a (ar 7 k g)) (hk : k < 2 ^ 31) (hout : ¬ vp_in i k) (hu : u + 60 ≤ B) (hc : (rest.map fun v => v.category).sum ≤ 8) (hdg : decode cc pc = .ok (.aaload, 1))
    (kk : XK p l e (rmB (d + 225) B) s m args below meth c locs u Q (F0 m pc ls rest) G y0 y 26) : W p l e (rmB (d + 225) B) s m args below meth c H locs u (20 * u) Q (F0 m pc ls (.int i :: va_rf (some a) :: rest)) := by
  obtain ⟨cell, h1, h2, h3, h4, h5, -⟩ := gt_arr (t := 7) hK rfl (hI.rd hK hr)
  intro T hT X
  obtain ⟨t, st, q⟩ := hv_aio0 (i := i) (k := k) htr E hK hI hlocks hz hk hu hc kk T hT X
  refine ⟨t, ?_, q⟩
  have z := X.aaloadOut E.1 (by rw [hT]; exact h1) h2 (j := i) (by show (i < 0 ∨ cell.slots.size ≤ _); rw [h4]; exact Classical.byContradiction hout) (g := F0 m pc ls (.int i :: va_rf (some a) :: rest)) rfl (rest := rest) rfl (by rw [E.2.1]; exact hdg) t
  rw [h4] at z
  exact z st
theorem vx_make0F {cc : ByteArray} {pc : Nat} (hexec : p.tables.exec = Jvm.exec) (hb : c.code = cc) (hl : l.stackTraces = false) {own cls : String} {names : List String} {ik ic : Nat} {A : Nat → Prop}
    (hown : s.vm.findClass own = some m.cls) (hcls : Bundle.fit cls = true) (hnames : ∀ n ∈ names, Bundle.fit n = true)
    (hk : (Cond.classLink own ik cls).before args s = true) (hini : (Cond.initialized cls).before args s = true) (hat : ∀ w ∈ vx_at0 own ic cls names, w.before args s = true)
    (hgood : ∀ w ∈ Cond.classLink own ik cls :: Cond.initialized cls :: vx_at0 own ic cls names, vx_ot w = true)
    (hU : vx_Zq Bundle.tN "UNASSIGNED_STACK" Bundle.steD A s s.heap) (hN : vx_Zq Bundle.tN "SUPPRESSED_SENTINEL" Bundle.listD A s s.heap) (hS : va_S A s.heap H locs) (hsize : ls.size = c.maxLocals)
    (d0 : decode cc pc = .ok (.new ik, 3)) (d3 : decode cc (pc + 3) = .ok (.dup, 1)) (d4 : decode cc (pc + 4) = .ok (.invokespecial ic, 3))
    (hRframes : names.length + 3 < R.frames) (hRlocals : (rest.map fun v => v.category).sum + (13 * (names.length + 1) + 42) ≤ R.locals) (hRcells : cells + 1 ≤ R.cells) (hRslots : slots + 6 ≤ R.slots)
    (kk : ∀ (H1 : Heap) (ce : Cell), H.size ≤ H1.size → (∀ q : Nat, q < H.size → H1[q]? = H[q]?) → va_S A s.heap H1 locs → H1[H.size]? = some ce → ce.vm = .none → s.vm.findClass cls = some ce.cls → W p l e R s m args below meth c H1 locs (cells + 1) (slots + 6) Q (F0 m (pc + 7) ls (.ref H.size :: rest))) :
    W p l e R s m args below meth c H locs cells slots Q (F0 m pc ls rest) := by
  intro T hT X
  subst hT
  have htr : e.platform.stackTraces = false := (show e.platform.stackTraces = l.stackTraces by rw [X.admits.platform]).trans hl
  have Y := vx_rebase X (R' := { frames := R.frames, locals := R.locals, cells := 1, slots := 6 }) (Nat.le_refl _) (Nat.le_refl _) hRcells hRslots
  obtain ⟨s', hA'⟩ : ∃ z, z = (T.setVm s.vm).setFrames (.invoking m args :: below) := ⟨_, rfl⟩
  rw [← hA'] at Y
  have hvm : s'.vm = s.vm := by rw [hA']; rfl
  have hhp : s'.heap = T.heap := by rw [hA']; rfl
  have hW0 : s.WarmedH s'.vm := by rw [hvm]; exact State.WarmedH.refl s
  have hat' : ∀ w ∈ vx_at0 own ic cls names, w.before args s' = true := fun w hw => vx_ot_at hW0 hvm.symm (hgood w (List.mem_cons_of_mem _ (List.mem_cons_of_mem _ hw))) (hat w hw)
  have hk' : (Cond.classLink own ik cls).before args s' = true := vx_ot_at hW0 hvm.symm (hgood _ List.mem_cons_self) hk
  have hini' : (Cond.initialized cls).before args s' = true := vx_ot_at hW0 hvm.symm (hgood _ (List.mem_cons_of_mem _ List.mem_cons_self)) hini
  have hU' : vx_Zq Bundle.tN "UNASSIGNED_STACK" Bundle.steD A s' s'.heap := by rw [hhp]; exact vx_Zq.moved hW0.alike (hU.kept hS.2.1)
  have hN' : vx_Zq Bundle.tN "SUPPRESSED_SENTINEL" Bundle.listD A s' s'.heap := by rw [hhp]; exact vx_Zq.moved hW0.alike (hN.kept hS.2.1)
  have h : ∀ w ∈ Bundle.ownAtoms0 own ic cls names, w.before args s' = true := vx_own hat' (vx_isRefq hU'.1) (vx_isRefq hN'.1) hU'.2.word hN'.2.word
  have hown' : s'.vm.findClass own = some m.cls := by rw [hvm]; exact hown
  have hins : (Cond.instantiable cls 6).before args s' = true := h _ (by simp [Bundle.ownAtoms0])
  obtain ⟨vm₁, cX, kX, hfX, hkX, -, -, X₁, st1⟩ := Y.newCold hexec (own := own) (C := cls) (index := ik) (n := 6) hown' hk' hins hini'
    (g := F0 m pc ls rest) rfl (by rw [hb]; exact d0) (Nat.le_refl _) (Nat.le_refl _)
  generalize hT1 : (T.setVm vm₁).pushCell { cls := cX, slots := kX.instanceTypes.map defaultValue, vm := .none } = T1 at X₁ st1
  have hcat : (Value.ref T.heap.size).category = 1 := rfl
  have hcellA : T1.heap[T.heap.size]? = some (freshCell cX kX) := by rw [← hT1]; exact State.heap_pushCell_size _ _
  have d3' : decode c.code (pc + 3) = .ok (.dup, 1) := by rw [hb]; exact d3
  obtain ⟨V, ce, L, Z, hL, hlt, hcl9, hvm9, st⟩ := vx_ctorMade0 X₁ hexec htr (own := own) (cls := cls) (names := names) (ic := ic) hown' hcls hnames h (fun x hx => nomatch hx) hfX hkX hcellA (by rw [hhp]; exact Nat.le_refl _)
    (g := { method := m, pc := pc + 4, locals := ls, stack := .ref T.heap.size :: .ref T.heap.size :: rest, locked := none }) rfl hsize (rest := rest) rfl
    (by rw [hb]; exact d4) hRframes (by simp only [List.map_cons, List.sum_cons, hcat]; omega)
  have Z0 := Stand.forget (locs := []) Z (fun y hy => by rw [hL y hy, hhp]; exact Nat.le_refl _)
  obtain ⟨f1, f2⟩ := vx_frame Z0.same
  rw [hhp] at f1 f2
  have hcid : s.vm.findClass cls = some ce.cls := by
    rw [hcl9]
    rw [hvm] at hfX
    exact hfX
  have hh : (V.setCell T.heap.size ce).heap[T.heap.size]? = some ce := heapAt_setCell_self (s := V) ce hlt
  subst hA'
  have X5 := vx_back9 X Y Z0
  have X6 : Stand p l e R s m args below meth c (V.setCell T.heap.size ce) locs (cells + 1) (slots + 6) := { X5 with same := X5.same.mono (by omega) (by omega) }
  obtain ⟨t, a1, b1⟩ := kk (V.setCell T.heap.size ce).heap ce f1 (fun q hq => f2 q hq (fun z hz => nomatch hz)) ⟨Nat.le_trans hS.1 f1, fun q h1 h2 => (f2 q (Nat.lt_of_lt_of_le h1 hS.1) (fun z hz => nomatch hz)).trans (hS.2.1 q h1 h2), hS.2.2⟩ hh hvm9 hcid _ rfl X6
  refine ⟨t, st1 _ ?_, b1⟩
  show Steps p.tables e below (T1.setTop { method := m, pc := pc + 3, locals := ls, stack := .ref T.heap.size :: rest, locked := none }) _
  jvm_step X₁.here [X₁.here.top, hexec, d3', Value.category]
  exact st _ a1
theorem hv_nsee {d : Nat} (htr : l.stackTraces = false) (E : CallFix p m c cc nL s args lw_all own) (hK : Kn G s) (hI : HI G y0 y s H locs) (hlocks : meth.locks = false) (hz : ls.size = nL) (hu : u + 60 ≤ B) (hc : (rest.map fun v => v.category).sum ≤ 8) (d0 : decode cc pc = .ok (.new 188, 3)) (d3 : decode cc (pc + 3) = .ok (.dup, 1)) (d4 : decode cc (pc + 4) = .ok (.invokespecial 190, 3)) (d7 : decode cc (pc + 7) = .ok (.athrow, 1)) (hown : own = "CaseGrouper")
    (kk : XK p l e (rmB (d + 225) B) s m args below meth c locs u Q (F0 m (pc + 7) ls rest) G y0 y 23) : W p l e (rmB (d + 225) B) s m args below meth c H locs u (20 * u) Q (F0 m pc ls rest) := by
  subst hown
  refine vx_make0F (names := ["java/lang/RuntimeException", "java/lang/Exception"]) E.1 E.2.1 htr E.2.2.2.1 (by decide +kernel) (by decide +kernel) (E.2.2.2.2 _ (at_S4 _ List.mem_cons_self)) (E.2.2.2.2 _ (at_S4 _ (List.mem_cons_of_mem _ List.mem_cons_self))) (tb_use E hK at_S1 at_S2) at_S3 (hK.zU hI) (hK.zN hI) hI.2.2.1 (by rw [E.2.2.1]; exact hz) d0 d3 d4 (by show 2 + 3 < d + 225; omega) (by show _ + (13 * (2 + 1) + 42) ≤ 46 * (d + 225); omega) (by show u + 1 ≤ B; omega) (by show 20 * u + 6 ≤ 20 * B; omega) (fun H1 ce h1 h2 h3 h4 h5 h6 => ?_)
  exact vx_athrow E.1 E.2.1 d7 (vx_widen (by omega) (by omega) (kk H.size (y.1, H1.size) H1 rfl (by show y.2 ≤ H1.size; have := hI.1.1; omega) (hI.thrown h1 h2 h3) ⟨ce, h4, h5, h6⟩))
theorem hv_castX {cn ci a d : Nat} {fs : List Value} (htr : l.stackTraces = false) (E : CallFix p m c cc nL s args lw_all own) (hK : Kn G s) (hI : HI G y0 y s H locs) (hlocks : meth.locks = false) (hz : ls.size = nL) (hcl : Cond.classLink own index (cnm cn) ∈ lw_all) (hr : rd G y a (ob ci fs)) (hci : ci < 27) (hcn : cn < 27) (hnc : (cnm ci, cnm cn) ∈ ncTab) (hu : u + 60 ≤ B) (hc : (rest.map fun v => v.category).sum ≤ 8) (hdg : decode cc pc = .ok (.checkcast index, 3))
    (kk : XK p l e (rmB (d + 225) B) s m args below meth c locs u Q (F0 m pc ls (va_rf (some a) :: rest)) G y0 y 24) : W p l e (rmB (d + 225) B) s m args below meth c H locs u (20 * u) Q (F0 m pc ls (va_rf (some a) :: rest)) := by
  sorry
theorem hv_getCause {a d k : Nat} {fs : List Value} {f : Option Nat} (E : CallFix p m c cc nL s args lw_all own) (hK : Kn G s) (hI : HI G y0 y s H locs) (hlink : Cond.methodLink own index ⟨"CaseGrouper$Refused", "getCause", "()Ljava/lang/Throwable;"⟩ ∈ lw_all) (hr : y.1 a = some (ob 15 fs)) (hf : fs[k]? = some (va_rf f)) (hne : ¬ f = some a) (hz : ls.size = nL) (hc : (rest.map fun v => v.category).sum ≤ 8) (hdg : decode cc pc = .ok (.invokevirtual index, 3))
    (kk : W p l e (rmB (d + 1) B) s m args below meth c H locs cells slots Q (F0 m (pc + 3) ls (va_rf f :: rest))) : W p l e (rmB (d + 1) B) s m args below meth c H locs cells slots Q (F0 m pc ls (va_rf (some a) :: rest)) := by
  sorry
end HVH
