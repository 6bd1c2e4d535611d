/-! What is answered, in plain words -/
set_option maxRecDepth 100000
/-- the leaves, by chapters -/
def lvs (E : Ed) : List Nat := (List.range (eCh E).length).flatMap (fun c => (List.range (eNd E).length).filter (fun n => match (eNd E)[n]? with
  | none => false
  | some x => !(decide (x.1 < 0)) && decide (x.2.2.2.2 = c)))
/-- a leaf to which some answers lead -/
def rchP (E : Ed) (n : Nat) : Prop := ∃ (c : Nat) (h : c < (eCh E).length) (an age day lv tp : Nat), an < 64 ∧ age ≤ 120 ∧ 1 ≤ day ∧ day ≤ 400 ∧ lv ≤ 3 ∧ tp ≤ 9 ∧ (gn (evB (nI an) (nI age) (nI day) (nI lv) (nI tp)) (eNd E) (eCn E) 40 (ix (eCh E)[c].2.2)).1 = n
noncomputable def rch (E : Ed) (n : Nat) : Bool := @decide (rchP E n) (Classical.propDecidable _)
theorem rch_iff {E : Ed} {n : Nat} : rch E n = true ↔ rchP E n := by
  unfold rch
  exact @decide_eq_true_iff (rchP E n) (Classical.propDecidable _)
def gst (ss : List St) (i : Int32) : Option St := if isSt ss.length i = true then ss[ix i]? else none
theorem gst_none {ss : List St} {i : Int32} (h : isSt ss.length i = false) : gst ss i = none := by rw [gst, h]; rfl
theorem gst_some {ss : List St} {k : Nat} (hn : ss.length ≤ 1000) (hk : k < ss.length) : gst ss (nI k) = some ss[k] := by
  rw [gst, if_pos (isSt_at hn hk), ix, nI_clamp (by omega), List.getElem?_eq_getElem hk]
theorem isSt_or {n : Nat} (hn : n ≤ 1000) (i : Int32) : isSt n i = false ∨ ∃ k, k < n ∧ i = nI k := by
  cases e : isSt n i with
  | false => exact Or.inl rfl
  | true => exact Or.inr ((isSt_iff hn).mp e)
def upS (ss : List St) (i : Int32) (s : St) : List St := ss.set (ix i) s
def aStay (ss : List St) (m a d : Int32) : Int32 × List St := if isD m && wthn a 0 120 && wthn d 1 400 && !(decide (ss.length = 24)) then (nI ss.length, ss ++ [(m, a, d, [], [])]) else (-1, ss)
def aCode (ss : List St) (i c : Int32) : Int32 × List St := match gst ss i with
  | none => (-1, ss)
  | some s => if sMay s c then (nI (sRow (sPut s c) c).length, upS ss i (sPut s c)) else (-1, ss)
def aDrop (ss : List St) (i c : Int32) : Bool × List St := match gst ss i with
  | none => (false, ss)
  | some s => if c ∈ sRow s c then (true, upS ss i (sDel s c)) else (false, ss)
def isSoM (w v : Int32) : Bool := if w = nI 0 then isD v else if w = nI 1 then wthn v 0 120 else if w = nI 2 then wthn v 1 400 else false
def sMn (s : St) (v : Int32) : St := if v ∈ sSecs s then sDel (v, sAge s, sDays s, sSecs s, sProcs s) v else (v, sAge s, sDays s, sSecs s, sProcs s)
def aAlter (ss : List St) (i w v : Int32) : Int32 × List St := match gst ss i with
  | none => (-1, ss)
  | some s => if isSoM w v then (if w = nI 0 then (sMain s, upS ss i (sMn s v)) else if w = nI 1 then (sAge s, upS ss i (sMain s, v, sDays s, sSecs s, sProcs s)) else (sDays s, upS ss i (sMain s, sAge s, v, sSecs s, sProcs s))) else (-1, ss)
def aLeafNo (E : Ed) (s : St) : Int32 := match lkN E s with
  | none => -1
  | some p => plcI ((lvs E).map nI) (nI p.1)
def aWays (E : Ed) (s : St) : List Bool := match lkN E s with
  | none => []
  | some p => p.2
def aOf (E : Ed) (ss : List St) (i w : Int32) : Int32 := match gst ss i with
  | none => -2
  | some s => if w = nI 0 then sMain s else if w = nI 1 then sAge s else if w = nI 2 then sDays s else if w = nI 3 then nI (sSecs s).length else if w = nI 4 then nI (sProcs s).length else if w = nI 5 then lkC E s else if w = nI 6 then lkT E s else if w = nI 7 then lkL E s else if w = nI 8 then lkK E s else if w = nI 9 then lkW E s else if w = nI 10 then nI (aWays E s).length else if w = nI 11 then aLeafNo E s else -2
def aListed (ss : List St) (i kd j : Int32) : Option Int32 := match gst ss i with
  | none => none
  | some s => if wthn kd (nI 0) (nI 1) then (if isSt (if kd = 0 then sSecs s else sProcs s).length j then (if kd = 0 then sSecs s else sProcs s)[ix j]? else none) else none
def aWay (E : Ed) (ss : List St) (i j : Int32) : Int32 := match gst ss i with
  | none => -1
  | some s => if isSt (aWays E s).length j then bi ((aWays E s).getD (ix j) false) else -1
def aPartner (E : Ed) (ss : List St) (i c w : Int32) : Int32 := match gst ss i with
  | none => -1
  | some s => if wthn w (nI 0) (nI 1) && decide (c ∈ sSecs s) then (if w = 0 then partnerFor (ePt E) c else bi (countsP (ePt E) s c)) else -1
def aWith (E : Ed) (ss : List St) (i c : Int32) : Int32 := match gst ss i with
  | none => -2
  | some s => if sMay s c then lkK E (sPut s c) else -2
def aWithout (E : Ed) (ss : List St) (i c : Int32) : Int32 := match gst ss i with
  | none => -2
  | some s => if c ∈ sRow s c then lkK E (sDel s c) else -2
def mtB (E : Ed) (s : St) (k : Nat) (c : Int32) : Int32 := if lkK E (sDel s c) = lkK E s then 0 else nI 1 <<< (nI k &&& 31)
/-- which codes matter, the first n of them -/
def mtF (E : Ed) (s : St) : Nat → Int32
  | 0 => 0
  | n + 1 => mtF E s n ||| mtB E s n ((sSecs s ++ sProcs s).getD n 0)
def aMatters (E : Ed) (ss : List St) (i : Int32) : Int32 := match gst ss i with
  | none => -1
  | some s => mtF E s (sSecs s ++ sProcs s).length
def rsB (E : Ed) (s : St) (c : Nat) : Bool := sMay s (nI c) && decide (lkW E s < lkW E (sPut s (nI c)))
def aRaises (E : Ed) (ss : List St) (i : Int32) : Int32 := match gst ss i with
  | none => -1
  | some s => fst9 (List.range 1500) (rsB E s)
def cnt {α : Type} (p : α → Bool) (xs : List α) : Int32 := nI (xs.countP p)
theorem countP_succ {α : Type} {xs : List α} {p : α → Bool} {k : Nat} (hk : k < xs.length) : (xs.take (k + 1)).countP p = (xs.take k).countP p + (if p xs[k] then 1 else 0) := by
  rw [List.take_succ_eq_append_getElem hk, List.countP_append, List.countP_singleton]
def lfOf (E : Ed) (k : Int32) (n : Nat) : Bool := decide ((((eNd E)[n]?).map (fun x => x.1)).getD (-1) = k)
def aOfClass (E : Ed) (ss : List St) (k w : Int32) : Int32 := if isSt (eCl E).length k then (if w = nI 0 then (((eCl E)[ix k]?).map (fun x => x.2)).getD 0 else if w = nI 1 then cnt (lfOf E k) (lvs E) else if w = nI 2 then cnt (fun s => decide (lkK E s = k)) ss else -1) else -1
def aName (E : Ed) (k i : Int32) : Int32 := if isSt (eCl E).length k then (if i < 0 then -1 else match (((eCl E)[ix k]?).map (fun x => x.1)).getD [] with
  | bs => if i < nI bs.length then nI (bs.getD (ix i) 0) - nI 97 + nI 1 else nI 0) else -1
def atLf (E : Ed) (n : Nat) (s : St) : Bool := match lkN E s with
  | none => false
  | some p => decide (p.1 = n)
noncomputable def aLeaf (E : Ed) (ss : List St) (l w : Int32) : Int32 := if isSt (lvs E).length l then (match (lvs E)[ix l]? with
  | none => -1
  | some n => if w = nI 0 then (((eNd E)[n]?).map (fun x => x.1)).getD (-1) else if w = nI 1 then (((eNd E)[n]?).map (fun x => nI x.2.2.2.2)).getD (-1) else if w = nI 2 then (if rch E n then nI 0 else nI 1) else if w = nI 3 then cnt (atLf E n) ss else -1) else -1
def nmOf (E : Ed) (k : Int32) : List Nat := (((eCl E)[ix k]?).map (fun x => x.1)).getD []
def mvd (E K : Ed) (s : St) : Bool := if lkK E s < 0 ∨ lkK K s < 0 then !(decide (lkK E s < 0)) || !(decide (lkK K s < 0)) else !(decide (nmOf E (lkK E s) = nmOf K (lkK K s)))
def sumW (f : St → Int32) (ss : List St) : Int32 := ss.foldl (fun a s => a + f s) 0
theorem sumW_succ {f : St → Int32} {ss : List St} {k : Nat} (hk : k < ss.length) : sumW f (ss.take (k + 1)) = sumW f (ss.take k) + f ss[k] := by
  unfold sumW
  rw [List.take_succ_eq_append_getElem hk, List.foldl_append]
  rfl
def aCompare (E : Ed) (K : Option Ed) (ss : List St) (w : Int32) : Int32 := match K with
  | none => -100000
  | some K => if wthn w (nI 0) (nI 2) then (if w = 0 then cnt (mvd E K) ss else if w = nI 1 then sumW (fun s => lkW K s - lkW E s) ss else fst9 ss (mvd E K)) else -100000
def aKeptW (K : Option Ed) (ss : List St) (i : Int32) : Int32 := match K with
  | none => -1
  | some K => match gst ss i with
    | none => -1
    | some s => lkW K s
noncomputable def aCount (E : Ed) (ss : List St) (tp : List Nat) (w : Int32) : Int32 := if w = nI 0 then nI (eCh E).length else if w = nI 1 then nI (eRk E).length else if w = nI 2 then nI (ePt E).length else if w = nI 3 then nI (eCl E).length else if w = nI 4 then nI (lvs E).length else if w = nI 5 then cnt (fun n => !(rch E n)) (lvs E) else if w = nI 6 then nI ss.length else if w = nI 7 then sumW (lkW E) ss else if w = nI 8 then cnt (fun s => decide (lkK E s < 0)) ss else if w = nI 9 then nI tp.length else if w = nI 10 then nI (eNd E).length else -1
