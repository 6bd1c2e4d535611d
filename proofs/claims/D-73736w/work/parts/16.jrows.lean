/-! Rows for the JDK's caches, mirrors and array casts -/
set_option maxRecDepth 100000
section HVJ
variable {p : Program} {l : Launch} {e : Env} {R : Room} {s : State} {m : MethodId} {args : Array Value} {below : List Frame} {meth : Method} {c : Code} {H : Heap} {locs : List Loc} {cells slots : Nat} {Q : State → Prop}
variable {cc bytes : ByteArray} {pc nL maxL n index : Nat} {ls : Array Slot} {rest st0 As : List Value} {G : GP} {y0 y : HS} {own : String}
theorem hv_cash {C : String} {t N : Nat} {f : Nat → Value} {i : Int32} (E : CallFix p m c cc nL s args lw_all own) (hK : Kn G s) (hI : HI G y0 y s H locs) (hT : va_T (.object C) t N f (fun a => (gH G).size ≤ a) s (gH G)) (hin : vp_in i N) (hdg : decode cc pc = .ok (.aaload, 1))
    (kk : W p l e R s m args below meth c H locs cells slots Q (F0 m (pc + 1) ls (f i.toNatClampNeg :: rest))) : W p l e R s m args below meth c H locs cells slots Q (F0 m pc ls (.int i :: .ref t :: rest)) := by
  obtain ⟨cell, h1, h2, h3, h4, h5, h6, h7⟩ := hT
  have h1' : H[t]? = some cell := by rw [hI.old hK t (Array.getElem?_eq_some_iff.mp h1).1]; exact h1
  exact W.aald (v := f i.toNatClampNeg) (ty := .object C) E.1 E.2.1 h1' h2 rfl h3 (fun q => hin (q.imp id (fun z => Nat.le_trans h4 z))) (h6 _ (Nat.not_le.mp fun q => hin (Or.inr q))) rfl rfl hdg kk
theorem hv_ldcM (E : CallFix p m c cc nL s args lw_all own) (hK : Kn G s) (hcl : Cond.classLink own index "[Ljava/lang/Object;" ∈ lw_all) (hdg : decode cc pc = .ok (.ldc index, 2))
    (kk : W p l e R s m args below meth c H locs cells slots Q (F0 m (pc + 2) ls (va_rf (some (gE G 3)) :: rest))) : W p l e R s m args below meth c H locs cells slots Q (F0 m pc ls rest) :=
  va_ldcM E.1 E.2.1 E.2.2.2.1 (E.2.2.2.2 _ hcl) hK.2.2.2.2.2.2.2.2.2.2.1 hdg kk
theorem hv_getC {a k d B : Nat} {g : Nat → Option Nat} (E : CallFix p m c cc nL s args lw_all own) (hK : Kn G s) (hI : HI G y0 y s H locs) (hr : rd G y a (ar 6 k g)) (hlink : Cond.methodLink own index ⟨"java/lang/Object", "getClass", "()Ljava/lang/Class;"⟩ ∈ lw_all) (hz : ls.size = nL) (hc : (rest.map fun v => v.category).sum ≤ 8) (hdg : decode cc pc = .ok (.invokevirtual index, 3))
    (kk : W p l e (rmB (d + 1) B) s m args below meth c H locs cells slots Q (F0 m (pc + 3) ls (va_rf (some (gE G 3)) :: rest))) : W p l e (rmB (d + 1) B) s m args below meth c H locs cells slots Q (F0 m pc ls (.ref a :: rest)) := by
  obtain ⟨cell, h1, h2, h3, h4, -⟩ := hI.rd hK hr
  have hf : s.vm.findClass "[Ljava/lang/Object;" = some (gA G 6) := (hK.1.2 6 _ rfl).2.choose_spec.choose_spec.2.2.2
  exact va_getC (C := "[Ljava/lang/Object;") E.1 E.2.1 (by rw [E.2.2.1]; exact hz.symm) E.2.2.2.1 (E.2.2.2.2 _ hlink) (va_Nw.use rfl (hK.2.2.2.2.1 _ q2495 rfl)) (E.2.2.2.2 _ q2494) (E.2.2.2.2 _ q930) (E.2.2.2.2 _ q960) hK.2.2.2.2.2.2.2.2.2.2.1 ⟨cell, h1, h3, by rw [h4]; exact hf⟩ (by show 1 ≤ d + 1; omega) (by show _ + 14 ≤ 46 * (d + 1); omega) hdg kk
theorem hv_castB {a k : Nat} {g : Nat → Int32} (E : CallFix p m c cc nL s args lw_all own) (hK : Kn G s) (hI : HI G y0 y s H locs) (hr : rd G y a (ai 3 k g)) (hcl : Cond.classLink own index "[B" ∈ lw_all) (hdg : decode cc pc = .ok (.checkcast index, 3))
    (kk : W p l e R s m args below meth c H locs cells slots Q (F0 m (pc + 3) ls (va_rf (some a) :: rest))) : W p l e R s m args below meth c H locs cells slots Q (F0 m pc ls (.ref a :: rest)) := by
  obtain ⟨cell, h1, h2, h3, h4, -⟩ := hI.rd hK hr
  have hf : s.vm.findClass "[B" = some (gA G 3) := (hK.1.2 3 _ rfl).2
  intro T hT X
  obtain ⟨vm', X', st⟩ := X.checkcastYes E.1 E.2.2.2.1 (E.2.2.2.2 _ hcl) (a := a) (cell := cell) (by rw [hT]; exact h1) h3 hf (by rw [h4]; exact va_asg _ _) (g := F0 m pc ls (.ref a :: rest)) rfl rfl (by rw [E.2.1]; exact hdg)
  obtain ⟨t, a1, b1⟩ := kk (T.setVm vm') hT X'
  exact ⟨t, st t a1, b1⟩
end HVJ
