/-! The text of an edition, read in plain words: what it gives, or where and how it fails -/
set_option maxRecDepth 100000
/-- the token, the edition so far, the unlike conditions of the tree so far -/
abbrev PS : Type := LxS × Ed × List Cn
abbrev pAt (s : PS) : Nat := s.1.1
abbrev pK (s : PS) : Nat := s.1.2.1.1
abbrev pW (s : PS) : List Nat := s.1.2.1.2.1
abbrev pNm (s : PS) : Nat := s.1.2.1.2.2
abbrev pP (s : PS) : Nat := s.1.2.2
abbrev pE (s : PS) : Ed := s.2.1
abbrev pA (s : PS) : List Cn := s.2.2
def bnd {α β : Type} (r : Except Nat α) (f : α → Except Nat β) : Except Nat β := match r with
  | .error e => .error e
  | .ok a => f a
def er {α : Type} (s : PS) (k : Nat) : Except Nat α := .error (8 * pAt s + k)
def uCh (E : Ed) (l : List Ch) : Ed := (l, E.2)
def uRk (E : Ed) (l : List Rk) : Ed := (E.1, l, E.2.2)
def uPt (E : Ed) (l : List Pt9) : Ed := (E.1, E.2.1, l, E.2.2.2)
def uCl (E : Ed) (l : List Cl) : Ed := (E.1, E.2.1, E.2.2.1, l, E.2.2.2.2)
def uNd (E : Ed) (l : List Nd) : Ed := (E.1, E.2.1, E.2.2.1, E.2.2.2.1, l, E.2.2.2.2.2)
def uCn (E : Ed) (l : List Cn) : Ed := (E.1, E.2.1, E.2.2.1, E.2.2.2.1, E.2.2.2.2.1, l)
def sEd (s : PS) (E : Ed) : PS := (s.1, E, s.2.2)
def nxt (bs : List Nat) (s : PS) : PS := (lex bs (pP s), s.2)
def isW (s : PS) (k : Nat) : Bool := decide (pK s = 2 ∧ pW s = wd k)
def isS (s : PS) (c : Nat) : Bool := decide (pK s = 4 ∧ pNm s = c)
def nameOk (s : PS) : Bool := decide (pK s = 2 ∧ pW s ∉ wdT)
def pSpan (bs : List Nat) (proc last : Bool) (s : PS) : Except Nat (Sp × PS) :=
  if pK s ≠ 1 then er s 1 else if decide (1000 ≤ pNm s) ≠ proc then er s 2 else if last = true then er s 4 else
  if isW (nxt bs s) 17 = false then .ok ((nI (pNm s), nI (pNm s)), nxt bs s) else
  if pK (nxt bs (nxt bs s)) ≠ 1 then er (nxt bs (nxt bs s)) 1 else
  if decide (1000 ≤ pNm (nxt bs (nxt bs s))) ≠ proc ∨ pNm (nxt bs (nxt bs s)) < pNm s then er (nxt bs (nxt bs s)) 2 else
  .ok ((nI (pNm s), nI (pNm (nxt bs (nxt bs s)))), nxt bs (nxt bs (nxt bs s)))
def pSpans (bs : List Nat) : Nat → List Sp → PS → Except Nat (List Sp × PS)
  | 0 => fun _ s => er s 4
  | f + 1 => fun acc s => bnd (pSpan bs false (decide (acc.length = 3)) s) (fun r => if isS r.2 44 = true then pSpans bs f (acc ++ [r.1]) (nxt bs r.2) else .ok (acc ++ [r.1], r.2))
def pNum (bs : List Nat) (lo hi : Nat) (s : PS) : Except Nat (Int32 × PS) :=
  if pK s ≠ 3 then er s 1 else if ¬ (lo ≤ pNm s ∧ pNm s ≤ hi) then er s 2 else .ok (nI (pNm s), nxt bs s)
def pMustS (bs : List Nat) (c : Nat) (s : PS) : Except Nat PS := if isS s c = true then .ok (nxt bs s) else er s 1
def pMustW (bs : List Nat) (k : Nat) (s : PS) : Except Nat PS := if isW s k = true then .ok (nxt bs s) else er s 1
def chI (E : Ed) (w : List Nat) : Nat := (eCh E).findIdx (fun c => decide (c.1 = w))
def clI (E : Ed) (w : List Nat) : Nat := (eCl E).findIdx (fun c => decide (c.1 = w))
def pChapter (bs : List Nat) (s : PS) : Except Nat PS :=
  if (eCh (pE s)).length = 6 then er s 4 else
  if nameOk (nxt bs s) = false then er (nxt bs s) 1 else
  if chI (pE s) (pW (nxt bs s)) < (eCh (pE s)).length then er (nxt bs s) 3 else
  bnd (pSpans bs 4 [] (nxt bs (nxt bs s))) (fun r => .ok (sEd r.2 (uCh (pE r.2) (eCh (pE r.2) ++ [(pW (nxt bs s), r.1, -1)]))))
def pRank (bs : List Nat) (s : PS) : Except Nat PS :=
  if (eRk (pE s)).length = 10 then er s 4 else
  bnd (pSpan bs true false (nxt bs s)) (fun r => bnd (pNum bs 1 9 r.2) (fun q => .ok (sEd q.2 (uRk (pE q.2) (eRk (pE q.2) ++ [(r.1, q.1)])))))
def pPartner (bs : List Nat) (s : PS) : Except Nat PS :=
  if (ePt (pE s)).length = 10 then er s 4 else
  bnd (pSpan bs false false (nxt bs s)) (fun r => bnd (pNum bs 1 3 r.2) (fun q =>
    if isW q.2 2 = true then bnd (pSpans bs 4 [] (nxt bs q.2)) (fun u => .ok (sEd u.2 (uPt (pE u.2) (ePt (pE u.2) ++ [(r.1, q.1, u.1)]))))
    else .ok (sEd q.2 (uPt (pE q.2) (ePt (pE q.2) ++ [(r.1, q.1, [])])))))
/-- a new condition: its number -/
def nwC (s : PS) (k : Cn) : Nat × PS := ((eCn (pE s)).length, sEd s (uCn (pE s) (eCn (pE s) ++ [k])))
def atF (w : Nat) (A : List Cn) : List Cn := A.filter (fun c => decide (c.1 < 6) == decide (w < 6))
def atI (w : Nat) (a b : Int32) (A : List Cn) : Nat := (atF w A).findIdx (fun c => decide (c.1 = w ∧ c.2.1 = a ∧ c.2.2.1 = b))
def pAtom (pl w : Nat) (a b : Int32) (s : PS) : Except Nat (Nat × PS) :=
  if atI w a b (pA s) = 6 then .error (8 * pl + 4) else
  .ok (nwC (s.1, s.2.1, if atI w a b (pA s) = (atF w (pA s)).length then pA s ++ [(w, a, b, atI w a b (pA s))] else pA s) (w, a, b, atI w a b (pA s)))
def pSpanC (bs : List Nat) (w : Nat) (s : PS) : Except Nat (Nat × PS) := bnd (pSpan bs (decide (w = 5)) false (nxt bs s)) (fun r => pAtom (pAt (nxt bs s)) w r.1.1 r.1.2 r.2)
def pComp (bs : List Nat) (w : Nat) (s : PS) : Except Nat (Nat × PS) :=
  if isS (nxt bs s) 60 = false ∧ isS (nxt bs s) 62 = false then er (nxt bs s) 1 else
  bnd (pNum bs 0 999 (nxt bs (nxt bs s))) (fun r => pAtom (pAt s) w (if isS (nxt bs s) 60 = true then 0 else nI 1) r.1 r.2)
def pChain (bs : List Nat) (w op : Nat) (r : PS → Except Nat (Nat × PS)) : Nat → Nat → PS → Except Nat (Nat × PS)
  | 0 => fun _ s => er s 1
  | f + 1 => fun c s => if isW s w = true then bnd (r (nxt bs s)) (fun q => pChain bs w op r f (nwC q.2 (op, nI c, nI q.1, 0)).1 (nwC q.2 (op, nI c, nI q.1, 0)).2) else .ok (c, s)
def pJoin (bs : List Nat) (w op : Nat) (r : PS → Except Nat (Nat × PS)) (s : PS) : Except Nat (Nat × PS) := bnd (r s) (fun q => pChain bs w op r (bs.length + 1) q.1 q.2)
def pAllB (bs : List Nat) (r : PS → Except Nat (Nat × PS)) : PS → Except Nat (Nat × PS) := pJoin bs 1 1 r
def pCondB (bs : List Nat) (r : PS → Except Nat (Nat × PS)) : PS → Except Nat (Nat × PS) := pJoin bs 13 0 (pAllB bs r)
def pClose (bs : List Nat) (q : Except Nat (Nat × PS)) : Except Nat (Nat × PS) := bnd q (fun q => bnd (pMustS bs 41 q.2) (fun s => .ok (q.1, s)))
def pOneB (bs : List Nat) (rc : Option (PS → Except Nat (Nat × PS))) (s : PS) : Except Nat (Nat × PS) :=
  if isW s 12 = true then (match rc with
    | none => er s 4
    | some r => bnd (r (nxt bs s)) (fun q => .ok (nwC q.2 (2, nI q.1, -1, 0))))
  else if isS s 40 = true then (match rc with
    | none => er s 4
    | some r => pClose bs (pCondB bs r (nxt bs s)))
  else if isW s 8 = true then pSpanC bs 3 s else if isW s 11 = true then pSpanC bs 4 s else if isW s 6 = true then pSpanC bs 5 s
  else if isW s 0 = true then pComp bs 6 s else if isW s 5 = true then pComp bs 7 s else if isW s 10 = true then pComp bs 8 s else if isW s 18 = true then pComp bs 9 s
  else er s 1
def pO (bs : List Nat) : Nat → PS → Except Nat (Nat × PS)
  | 0 => pOneB bs none
  | d + 1 => pOneB bs (some (pO bs d))
def pLeaf (bs : List Nat) (tc : Nat) (s : PS) : Except Nat (Nat × PS) :=
  if (eNd (pE s)).length = 40 then er s 4 else
  if nameOk (nxt bs s) = false then er (nxt bs s) 1 else
  if clI (pE s) (pW (nxt bs s)) = 16 then er (nxt bs s) 4 else
  if pK (nxt bs (nxt bs s)) ≠ 3 then er (nxt bs (nxt bs s)) 1 else
  if ¬ (1 ≤ pNm (nxt bs (nxt bs s)) ∧ pNm (nxt bs (nxt bs s)) ≤ 999) then er (nxt bs (nxt bs s)) 2 else
  if (((eCl (pE s))[clI (pE s) (pW (nxt bs s))]?).map (fun x => x.2)).getD (nI (pNm (nxt bs (nxt bs s)))) ≠ nI (pNm (nxt bs (nxt bs s))) then er (nxt bs (nxt bs s)) 3 else
  .ok ((eNd (pE s)).length, sEd (nxt bs (nxt bs (nxt bs s))) (uCl (uNd (pE s) (eNd (pE s) ++ [(nI (clI (pE s) (pW (nxt bs s))), 0, 0, 0, tc)]))
    (if clI (pE s) (pW (nxt bs s)) = (eCl (pE s)).length then eCl (pE s) ++ [(pW (nxt bs s), nI (pNm (nxt bs (nxt bs s))))] else eCl (pE s))))
def pNodeB (bs : List Nat) (tc : Nat) (rc : Option ((PS → Except Nat (Nat × PS)) × (PS → Except Nat (Nat × PS)))) (s : PS) : Except Nat (Nat × PS) :=
  if isS s 40 = true then (match rc with
    | none => er s 4
    | some r => pClose bs (r.2 (nxt bs s)))
  else if isW s 4 = true then pLeaf bs tc s
  else if isW s 9 = false then er s 1
  else if (eNd (pE s)).length = 40 then er s 4
  else match rc with
    | none => er s 4
    | some r => bnd (r.1 (nxt bs (sEd s (uNd (pE s) (eNd (pE s) ++ [(-1, 0, 0, 0, tc)]))))) (fun c => bnd (pMustW bs 16 c.2) (fun s2 => bnd (r.2 s2) (fun t => bnd (pMustW bs 7 t.2) (fun s3 => bnd (r.2 s3) (fun e =>
        .ok ((eNd (pE s)).length, sEd e.2 (uNd (pE e.2) ((eNd (pE e.2)).set (eNd (pE s)).length (-1, c.1, t.1, e.1, tc)))))))))
def pN (bs : List Nat) (tc : Nat) : Nat → PS → Except Nat (Nat × PS)
  | 0 => pNodeB bs tc none
  | d + 1 => pNodeB bs tc (some (pCondB bs (pO bs d), pN bs tc d))
def pTree (bs : List Nat) (s : PS) : Except Nat PS :=
  if nameOk (nxt bs s) = false then er (nxt bs s) 1 else
  match (eCh (pE s))[chI (pE s) (pW (nxt bs s))]? with
  | none => er (nxt bs s) 3
  | some c => if 0 ≤ c.2.2 then er (nxt bs s) 3 else
    bnd (pN bs (chI (pE s) (pW (nxt bs s))) 9 ((nxt bs (nxt bs s)).1, pE s, [])) (fun r => .ok (sEd r.2 (uCh (pE r.2) ((eCh (pE r.2)).set (chI (pE s) (pW (nxt bs s))) (c.1, c.2.1, nI r.1)))))
def pKind (bs : List Nat) (s : PS) : Except Nat PS :=
  if isW s 3 = true then pChapter bs s else if isW s 15 = true then pRank bs s else if isW s 14 = true then pPartner bs s else if isW s 19 = true then pTree bs s else er s 1
def pLine (bs : List Nat) (s : PS) : Except Nat PS := bnd (pKind bs s) (fun q => pMustS bs 59 q)
def pLines (bs : List Nat) : Nat → Nat → PS → Nat × Except Nat PS
  | 0 => fun n s => (n, er s 1)
  | f + 1 => fun n s => if pK s = 0 then (n, .ok s) else match pLine bs s with
    | .error e => (n, .error e)
    | .ok q => pLines bs f (n + 1) q
def E0 : Ed := ([], [], [], [], [], [])
def pWhole (bs : List Nat) : Nat × Except Nat Ed := match pLines bs (bs.length + 1) 0 (lex bs 0, E0, []) with
  | (n, .error e) => (n, .error e)
  | (n, .ok s) => if (eCh (pE s)).all (fun c => decide (0 ≤ c.2.2)) = true then (n, .ok (pE s)) else (n, er s 5)
/-- what edition() answers, and what is then -/
def aEdition (M : MS) : Int32 × MS := if 900 < (mT M).length then (-1, (mE M, mK M, mS M, [], -1)) else match pWhole (mT M) with
  | (n, .error f) => (-2 - nI f, (mE M, mK M, mS M, [], nI n))
  | (n, .ok E) => (nI n, (E, mK M, mS M, [], -1))
