/-! Classes by number; helpers of the printed walks -/
set_option maxRecDepth 100000
theorem ciX1 : CI 0 RX1 TX1 8 tyX1 := ⟨rfl, in_X1, tyX1_ok, nmX1⟩
theorem df0 : ∀ j, j < 8 → defaultValue (tyX1 j) = vp_V [va_rf none, .int 0, .int 0, va_rf none, va_rf none, va_rf none, va_rf none, va_rf none] j := by
  intro j hj
  match j, hj with
  | 0, _ => rfl
  | 1, _ => rfl
  | 2, _ => rfl
  | 3, _ => rfl
  | 4, _ => rfl
  | 5, _ => rfl
  | 6, _ => rfl
  | 7, _ => rfl
  | k + 8, h => omega
theorem ciX2 : CI 1 RX2 TX2 9 tyX2 := ⟨rfl, in_X2, tyX2_ok, nmX2⟩
theorem df1 : ∀ j, j < 9 → defaultValue (tyX2 j) = vp_V [va_rf none, va_rf none, va_rf none, va_rf none, va_rf none, va_rf none, va_rf none, .int 0, .int 0] j := by
  intro j hj
  match j, hj with
  | 0, _ => rfl
  | 1, _ => rfl
  | 2, _ => rfl
  | 3, _ => rfl
  | 4, _ => rfl
  | 5, _ => rfl
  | 6, _ => rfl
  | 7, _ => rfl
  | 8, _ => rfl
  | k + 9, h => omega
theorem ciX4 : CI 2 RX4 TX4 8 tyX4 := ⟨rfl, in_X4, tyX4_ok, nmX4⟩
theorem df2 : ∀ j, j < 8 → defaultValue (tyX4 j) = vp_V [va_rf none, va_rf none, .int 0, .int 0, .int 0, va_rf none, .int 0, .long 0] j := by
  intro j hj
  match j, hj with
  | 0, _ => rfl
  | 1, _ => rfl
  | 2, _ => rfl
  | 3, _ => rfl
  | 4, _ => rfl
  | 5, _ => rfl
  | 6, _ => rfl
  | 7, _ => rfl
  | k + 8, h => omega
theorem ciX5 : CI 3 RX5 TX5 73 tyX5 := ⟨rfl, in_X5, tyX5_ok, nmX5⟩
theorem ciX6 : CI 4 RX6 TX6 10 tyX6 := ⟨rfl, in_X6, tyX6_ok, nmX6⟩
theorem df4 : ∀ j, j < 10 → defaultValue (tyX6 j) = vp_V [.int 0, va_rf none, .int 0, .int 0, va_rf none, .int 0, .int 0, .int 0, va_rf none, va_rf none] j := by
  intro j hj
  match j, hj with
  | 0, _ => rfl
  | 1, _ => rfl
  | 2, _ => rfl
  | 3, _ => rfl
  | 4, _ => rfl
  | 5, _ => rfl
  | 6, _ => rfl
  | 7, _ => rfl
  | 8, _ => rfl
  | 9, _ => rfl
  | k + 10, h => omega
theorem ciX7 : CI 5 RX7 TX7 1 tyX7 := ⟨rfl, in_X7, tyX7_ok, nmX7⟩
theorem df5 : ∀ j, j < 1 → defaultValue (tyX7 j) = vp_V [.int 0] j := by
  intro j hj
  match j, hj with
  | 0, _ => rfl
  | k + 1, h => omega
theorem ciX8 : CI 6 RX8 TX8 7 tyX8 := ⟨rfl, in_X8, tyX8_ok, nmX8⟩
theorem df6 : ∀ j, j < 7 → defaultValue (tyX8 j) = vp_V [va_rf none, va_rf none, va_rf none, va_rf none, va_rf none, .int 0, .int 0] j := by
  intro j hj
  match j, hj with
  | 0, _ => rfl
  | 1, _ => rfl
  | 2, _ => rfl
  | 3, _ => rfl
  | 4, _ => rfl
  | 5, _ => rfl
  | 6, _ => rfl
  | k + 7, h => omega
theorem ciX9 : CI 7 RX9 TX9 5 tyX9 := ⟨rfl, in_X9, tyX9_ok, nmX9⟩
theorem df7 : ∀ j, j < 5 → defaultValue (tyX9 j) = vp_V [va_rf none, va_rf none, va_rf none, va_rf none, va_rf none] j := by
  intro j hj
  match j, hj with
  | 0, _ => rfl
  | 1, _ => rfl
  | 2, _ => rfl
  | 3, _ => rfl
  | 4, _ => rfl
  | k + 5, h => omega
theorem ciX10 : CI 8 RX10 TX10 2 tyX10 := ⟨rfl, in_X10, tyX10_ok, nmX10⟩
theorem df8 : ∀ j, j < 2 → defaultValue (tyX10 j) = vp_V [.int 0, .int 0] j := by
  intro j hj
  match j, hj with
  | 0, _ => rfl
  | 1, _ => rfl
  | k + 2, h => omega
theorem ciX11 : CI 9 RX11 TX11 2 tyX11 := ⟨rfl, in_X11, tyX11_ok, nmX11⟩
theorem df9 : ∀ j, j < 2 → defaultValue (tyX11 j) = vp_V [va_rf none, .int 0] j := by
  intro j hj
  match j, hj with
  | 0, _ => rfl
  | 1, _ => rfl
  | k + 2, h => omega
theorem ciX12 : CI 10 RX12 TX12 3 tyX12 := ⟨rfl, in_X12, tyX12_ok, nmX12⟩
theorem df10 : ∀ j, j < 3 → defaultValue (tyX12 j) = vp_V [va_rf none, .int 0, va_rf none] j := by
  intro j hj
  match j, hj with
  | 0, _ => rfl
  | 1, _ => rfl
  | 2, _ => rfl
  | k + 3, h => omega
theorem ciX13 : CI 11 RX13 TX13 2 tyX13 := ⟨rfl, in_X13, tyX13_ok, nmX13⟩
theorem df11 : ∀ j, j < 2 → defaultValue (tyX13 j) = vp_V [.int 0, .int 0] j := by
  intro j hj
  match j, hj with
  | 0, _ => rfl
  | 1, _ => rfl
  | k + 2, h => omega
theorem ciX14 : CI 12 RX14 TX14 2 tyX14 := ⟨rfl, in_X14, tyX14_ok, nmX14⟩
theorem df12 : ∀ j, j < 2 → defaultValue (tyX14 j) = vp_V [va_rf none, va_rf none] j := by
  intro j hj
  match j, hj with
  | 0, _ => rfl
  | 1, _ => rfl
  | k + 2, h => omega
theorem ciX15 : CI 13 RX15 TX15 5 tyX15 := ⟨rfl, in_X15, tyX15_ok, nmX15⟩
theorem df13 : ∀ j, j < 5 → defaultValue (tyX15 j) = vp_V [va_rf none, va_rf none, .int 0, .int 0, .int 0] j := by
  intro j hj
  match j, hj with
  | 0, _ => rfl
  | 1, _ => rfl
  | 2, _ => rfl
  | 3, _ => rfl
  | 4, _ => rfl
  | k + 5, h => omega
theorem ciX16 : CI 14 RX16 TX16 2 tyX16 := ⟨rfl, in_X16, tyX16_ok, nmX16⟩
theorem df14 : ∀ j, j < 2 → defaultValue (tyX16 j) = vp_V [va_rf none, va_rf none] j := by
  intro j hj
  match j, hj with
  | 0, _ => rfl
  | 1, _ => rfl
  | k + 2, h => omega
theorem ciX17 : CI 15 RX17 TX17 7 tyX17 := ⟨rfl, in_X17, tyX17_ok, nmX17⟩
theorem df15 : ∀ j, j < 7 → defaultValue (tyX17 j) = vp_V [va_rf none, va_rf none, va_rf none, va_rf none, va_rf none, .int 0, .int 0] j := by
  intro j hj
  match j, hj with
  | 0, _ => rfl
  | 1, _ => rfl
  | 2, _ => rfl
  | 3, _ => rfl
  | 4, _ => rfl
  | 5, _ => rfl
  | 6, _ => rfl
  | k + 7, h => omega
theorem ciX18 : CI 16 RX18 TX18 5 tyX18 := ⟨rfl, in_X18, tyX18_ok, nmX18⟩
theorem df16 : ∀ j, j < 5 → defaultValue (tyX18 j) = vp_V [.int 0, .int 0, .int 0, .int 0, .int 0] j := by
  intro j hj
  match j, hj with
  | 0, _ => rfl
  | 1, _ => rfl
  | 2, _ => rfl
  | 3, _ => rfl
  | 4, _ => rfl
  | k + 5, h => omega
theorem ciX19 : CI 17 RX19 TX19 5 tyX19 := ⟨rfl, in_X19, tyX19_ok, nmX19⟩
theorem df17 : ∀ j, j < 5 → defaultValue (tyX19 j) = vp_V [.int 0, .int 0, .int 0, va_rf none, va_rf none] j := by
  intro j hj
  match j, hj with
  | 0, _ => rfl
  | 1, _ => rfl
  | 2, _ => rfl
  | 3, _ => rfl
  | 4, _ => rfl
  | k + 5, h => omega
theorem ciJ2 : CI 18 RJ2 TJ2 3 tyJ2 := ⟨rfl, in_J2, tyJ2_ok, nmJ2⟩
theorem df18 : ∀ j, j < 3 → defaultValue (tyJ2 j) = vp_V [.int 0, va_rf none, .int 0] j := by
  intro j hj
  match j, hj with
  | 0, _ => rfl
  | 1, _ => rfl
  | 2, _ => rfl
  | k + 3, h => omega
theorem ciJ4 : CI 19 RJ4 TJ4 4 tyJ4 := ⟨rfl, in_J4, tyJ4_ok, nmJ4⟩
theorem df19 : ∀ j, j < 4 → defaultValue (tyJ4 j) = vp_V [va_rf none, .int 0, .int 0, .int 0] j := by
  intro j hj
  match j, hj with
  | 0, _ => rfl
  | 1, _ => rfl
  | 2, _ => rfl
  | 3, _ => rfl
  | k + 4, h => omega
theorem ciJ5 : CI 20 RJ5 TJ5 4 tyJ5 := ⟨rfl, in_J5, tyJ5_ok, nmJ5⟩
theorem df20 : ∀ j, j < 4 → defaultValue (tyJ5 j) = vp_V [va_rf none, .int 0, .int 0, .int 0] j := by
  intro j hj
  match j, hj with
  | 0, _ => rfl
  | 1, _ => rfl
  | 2, _ => rfl
  | 3, _ => rfl
  | k + 4, h => omega
theorem ciJ13 : CI 21 RJ13 TJ13 1 tyJ13 := ⟨rfl, in_J13, tyJ13_ok, nmJ13⟩
theorem df21 : ∀ j, j < 1 → defaultValue (tyJ13 j) = vp_V [.int 0] j := by
  intro j hj
  match j, hj with
  | 0, _ => rfl
  | k + 1, h => omega
theorem ciJ14 : CI 22 RJ14 TJ14 1 tyJ14 := ⟨rfl, in_J14, tyJ14_ok, nmJ14⟩
theorem df22 : ∀ j, j < 1 → defaultValue (tyJ14 j) = vp_V [.int 0] j := by
  intro j hj
  match j, hj with
  | 0, _ => rfl
  | k + 1, h => omega
theorem ciJ21 : CI 23 RJ21 TJ21 6 tyJ21 := ⟨rfl, in_J21, tyJ21_ok, nmJ21⟩
theorem df23 : ∀ j, j < 6 → defaultValue (tyJ21 j) = vp_V [va_rf none, va_rf none, va_rf none, va_rf none, va_rf none, .int 0] j := by
  intro j hj
  match j, hj with
  | 0, _ => rfl
  | 1, _ => rfl
  | 2, _ => rfl
  | 3, _ => rfl
  | 4, _ => rfl
  | 5, _ => rfl
  | k + 6, h => omega
theorem ciJ19 : CI 24 RJ19 TJ19 6 tyJ19 := ⟨rfl, in_J19, tyJ19_ok, nmJ19⟩
theorem df24 : ∀ j, j < 6 → defaultValue (tyJ19 j) = vp_V [va_rf none, va_rf none, va_rf none, va_rf none, .int 0, va_rf none] j := by
  intro j hj
  match j, hj with
  | 0, _ => rfl
  | 1, _ => rfl
  | 2, _ => rfl
  | 3, _ => rfl
  | 4, _ => rfl
  | 5, _ => rfl
  | k + 6, h => omega
theorem ciJ20 : CI 25 RJ20 TJ20 8 tyJ20 := ⟨rfl, in_J20, tyJ20_ok, nmJ20⟩
theorem df25 : ∀ j, j < 8 → defaultValue (tyJ20 j) = vp_V [va_rf none, va_rf none, va_rf none, va_rf none, .int 0, va_rf none, .int 0, va_rf none] j := by
  intro j hj
  match j, hj with
  | 0, _ => rfl
  | 1, _ => rfl
  | 2, _ => rfl
  | 3, _ => rfl
  | 4, _ => rfl
  | 5, _ => rfl
  | 6, _ => rfl
  | 7, _ => rfl
  | k + 8, h => omega
theorem ciJ23 : CI 26 RJ23 TJ23 6 tyJ23 := ⟨rfl, in_J23, tyJ23_ok, nmJ23⟩
theorem df26 : ∀ j, j < 6 → defaultValue (tyJ23 j) = vp_V [va_rf none, va_rf none, va_rf none, va_rf none, .int 0, va_rf none] j := by
  intro j hj
  match j, hj with
  | 0, _ => rfl
  | 1, _ => rfl
  | 2, _ => rfl
  | 3, _ => rfl
  | 4, _ => rfl
  | 5, _ => rfl
  | k + 6, h => omega
def fI (y : HS) (a c k : Nat) (x : Int32) : Prop := ∃ fs, y.1 a = some (ob c fs) ∧ fs[k]? = some (.int x)
def fL (y : HS) (a c k : Nat) (x : Int64) : Prop := ∃ fs, y.1 a = some (ob c fs) ∧ fs[k]? = some (.long x)
def fR (y : HS) (a c k : Nat) (r : Option Nat) : Prop := ∃ fs, y.1 a = some (ob c fs) ∧ fs[k]? = some (va_rf r)
def fIc (G : GP) (y : HS) (a c k : Nat) (x : Int32) : Prop := ∃ fs, rd G y a (ob c fs) ∧ fs[k]? = some (.int x)
def fRc (G : GP) (y : HS) (a c k : Nat) (r : Option Nat) : Prop := ∃ fs, rd G y a (ob c fs) ∧ fs[k]? = some (va_rf r)
theorem int_cat (x : Int32) : (Value.int x).category = 1 := rfl
theorem long_cat (x : Int64) : (Value.long x).category = 2 := rfl
theorem mm_fr {B : Nat} (d : Nat) : 1 ≤ (rmB (d + 1) B).frames := by show 1 ≤ d + 1; omega
theorem mm_lo {B x : Nat} (d : Nat) (h : x ≤ 8) : x + 13 ≤ (rmB (d + 1) B).locals := by show x + 13 ≤ 46 * (d + 1); omega
theorem mm_sl {u B d : Nat} (h : u ≤ B) : 20 * u ≤ (rmB d B).slots := by show 20 * u ≤ 20 * B; omega
theorem bi_fit (b : Bool) : fits .boolean (.int (bi b)) = true := by cases b <;> rfl
theorem rf_nar (ty : FieldType) (r : Option Nat) (h : ty.isReference = true) : narrow ty (va_rf r) = va_rf r := by
  cases ty <;> first | (cases r <;> rfl) | cases h
theorem rf_fit (ty : FieldType) (r : Option Nat) (h : ty.isReference = true) : fits ty (va_rf r) = true := by
  cases ty <;> first | (cases r <;> rfl) | cases h
theorem hU_ws {own C owner : String} {idx : Nat} {x y : MethodName} {ws : List Cond} (h1 : Cond.methodLink own idx x ∈ lw_all) (h2 : Cond.sameMethod x.cls owner x.name x.desc ∈ lw_all) (h3 : Cond.selects C x y ∈ lw_all) (h4 : Cond.instanceMethod y ∈ lw_all) (h5 : Cond.initialized y.cls ∈ lw_all) (h6 : GoodIn lw_all ws) : GoodIn lw_all (va_wsU own idx C owner x y ws) := by
  refine lw_app ?_ h6
  intro w hw
  simp only [List.mem_cons, List.not_mem_nil, or_false] at hw
  rcases hw with e | e | e | e | e
  · rw [e]; exact h1
  · rw [e]; exact h2
  · rw [e]; exact h3
  · rw [e]; exact h4
  · rw [e]; exact h5
theorem hO_ws {own C owner : String} {idx : Nat} {x y : MethodName} {ws : List Cond} (h1 : Cond.methodLink own idx x ∈ lw_all) (h2 : Cond.sameMethod x.cls owner x.name x.desc ∈ lw_all) (h0 : Cond.instanceMethod ⟨owner, x.name, x.desc⟩ ∈ lw_all) (h3 : Cond.selects C x y ∈ lw_all) (h4 : Cond.instanceMethod y ∈ lw_all) (h5 : Cond.initialized y.cls ∈ lw_all) (h6 : GoodIn lw_all ws) : GoodIn lw_all (va_wsO own idx C owner x y ws) := by
  refine lw_app ?_ h6
  intro w hw
  simp only [List.mem_cons, List.not_mem_nil, or_false] at hw
  rcases hw with e | e | e | e | e | e
  · rw [e]; exact h1
  · rw [e]; exact h2
  · rw [e]; exact h0
  · rw [e]; exact h3
  · rw [e]; exact h4
  · rw [e]; exact h5
theorem hSU_ws {own : String} {idx : Nat} {y : MethodName} {ws : List Cond} (h1 : Cond.methodLink own idx y ∈ lw_all) (h2 : Cond.sameMethod y.cls y.cls y.name y.desc ∈ lw_all) (h3 : Cond.superclass own y.cls ∈ lw_all) (h4 : Cond.instanceMethod y ∈ lw_all) (h5 : Cond.initialized y.cls ∈ lw_all) (h6 : GoodIn lw_all ws) : GoodIn lw_all (va_wsSU own idx y ws) := by
  refine lw_app ?_ h6
  intro w hw
  simp only [List.mem_cons, List.not_mem_nil, or_false] at hw
  rcases hw with e | e | e | e | e
  · rw [e]; exact h1
  · rw [e]; exact h2
  · rw [e]; exact h3
  · rw [e]; exact h4
  · rw [e]; exact h5
/-- a call through an object whose selection is known otherwise (abstract, private) -/
theorem cw_any {R : Room} {s : State} {args : Array Value} {own C owner : String} {index maxL mc ms : Nat} {x y : MethodName} {bytes : ByteArray} {ret : Option FieldType} {ws' : List Cond} {rm : Room} (n : Nat) (ht : ∀ w ∈ lw_all, w.before args s = true) (hG : GoodIn lw_all (Cond.code y bytes maxL ret :: ws')) (hrc : rm.cells = mc) (hrs : rm.slots = ms) (h1 : Cond.methodLink own index x ∈ lw_all) (h2 : Cond.sameMethod x.cls owner x.name x.desc ∈ lw_all) (h3 : (Cond.selects C x y).before args s = true) (h4 : Cond.instanceMethod y ∈ lw_all) (h5 : Cond.initialized y.cls ∈ lw_all) (hz : va_Decl s ⟨owner, x.name, x.desc⟩)
    (hd : owner ≠ "java/lang/invoke/MethodHandle" ∧ owner ≠ "java/lang/invoke/VarHandle" ∧ (parseMethodDescriptor x.desc).map (fun d => d.parameters.length) = some n) (hR : rm.frames + 1 ≤ R.frames ∧ 8 + (maxL + 11) + rm.locals ≤ R.locals) : va_CU R s args own C owner index x y bytes maxL ret (Cond.code y bytes maxL ret :: ws') rm mc ms n := by
  refine ⟨⟨hrc, hrs, hR.1, hR.2, pay_in ht hG, List.mem_cons_self⟩, ht _ (hG _ List.mem_cons_self).1, ht _ h5, ⟨hd.1, hd.2.1⟩, fun sig h => ?_, ht _ h1, ht _ h2, hz, h3, ht _ h4⟩
  have h2 := hd.2.2
  rw [h] at h2
  exact (Option.some.inj h2).symm
section HLD
variable {p : Program} {l : Launch} {e : Env} {R : Room} {s : State} {m : MethodId} {args : Array Value} {below : List Frame} {meth : Method} {c : Code} {H : Heap} {locs : List Loc} {cells slots : Nat} {Q : State → Prop} {cc : ByteArray} {pc nL : Nat} {ls : Array Slot} {rest : List Value} {G : GP}
theorem hv_ldcS {index : Nat} {own tx : String} (E : CallFix p m c cc nL s args lw_all own) (hK : Kn G s) (j i : Nat) (hj : strTab[j]? = some (own, index, tx, i)) (hdg : decode cc pc = .ok (.ldc index, 2))
    (kk : W p l e R s m args below meth c H locs cells slots Q (F0 m (pc + 2) ls (va_rf (some (gK G i)) :: rest))) : W p l e R s m args below meth c H locs cells slots Q (F0 m pc ls rest) :=
  va_ldcS E.1 E.2.1 E.2.2.2.1 (hK.2.2.1 _ (List.mem_of_getElem? hj)) hdg kk
theorem hv_ldcSw {index : Nat} {own tx : String} (E : CallFix p m c cc nL s args lw_all own) (hK : Kn G s) (j i : Nat) (hj : strTab[j]? = some (own, index, tx, i)) (hdg : decode cc pc = .ok (.ldc_w index, 3))
    (kk : W p l e R s m args below meth c H locs cells slots Q (F0 m (pc + 3) ls (va_rf (some (gK G i)) :: rest))) : W p l e R s m args below meth c H locs cells slots Q (F0 m pc ls rest) :=
  va_ldcSw E.1 E.2.1 E.2.2.2.1 (hK.2.2.1 _ (List.mem_of_getElem? hj)) hdg kk
end HLD
