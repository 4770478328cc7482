/-! what happens in a kitchen, in plain words -/
def fo {α : Type} (f : Nat → α → α) : Nat → Nat → α → α
  | 0, _, a => a
  | m + 1, k, a => fo f m (k + 1) (f k a)
def mg (S : St) (kd i j : Nat) : Ms := (kd, i, j, sg S 0 + sk S i 0)
def hw (S : St) (j d : Nat) : Int32 := sc S j (4 + 4 * d + 2)
def am (S : St) (j d : Nat) : Int32 := sc S j (4 + 4 * d + 1)
def ig (S : St) (j d : Nat) : Int32 := sc S j (4 + 4 * d) - 1
def ign (S : St) (j d : Nat) : Nat := (ig S j d).toNatClampNeg
def dks (S : St) (j : Nat) : List Nat := (List.range 6).filter (fun d => decide (isD S j d))
def becomesP (S : St) (j d : Nat) (v line : Int32) : St := usl (usc (usc S j (4 + 4 * d + 2) v) j (4 + 4 * d + 3) (sg S 0)) (d + 1) (line, Int32.ofNat j, sg S 0)
def resT (S : St) (i : Nat) (ing : Int32) (j : Nat) (s : Int32) : Int32 := if isD S j i ∧ hw S j i = 1 ∧ ig S j i = ing then s + am S j i else s
def reservedP (S : St) (i : Nat) (ing : Int32) : Int32 := fo (resT S i ing) (nc S) 0 0
def freeP (S : St) (i ing : Nat) : Int32 := sk S i (3 + ing) - reservedP S i (Int32.ofNat ing)
def settlesP (S : St) (j : Nat) (v : Int32) : St := usl (usc (usc S j 0 v) j 2 (sg S 0)) 0 (if v = 2 then 1 else 2, Int32.ofNat j, sg S 0)
def sendsP (S : St) (kd j : Nat) : List Ms := (dks S j).map (fun d => mg S kd d j)
def decn (S : St) (j : Nat) : Nat := if sc S j 0 = 2 then 3 else 4
def invitedP (S : St) (d j : Nat) : St × List Ms := if hw S j d = 0 then (if freeP S d (ign S j d) < am S j d then (becomesP S j d 2 4, [mg S 2 d j]) else (becomesP S j d 1 3, [mg S 1 d j])) else (S, [])
def servesP (S : St) (d : Nat) (ing : Nat) (a : Int32) : St := usk (usk S d (3 + ing) (sk S d (3 + ing) - a)) d (11 + ing) (sk S d (11 + ing) + a)
def hearsP (S : St) (d j : Nat) (b : Bool) : St := if b = true ∧ hw S j d = 1 then servesP (becomesP S j d 3 5) d (ign S j d) (am S j d) else if b = false ∧ (hw S j d = 0 ∨ hw S j d = 1) then becomesP S j d 4 6 else S
def popc (n : Nat) : Nat := n % 2 + n / 2 % 2 + n / 4 % 2 + n / 8 % 2 + n / 16 % 2 + n / 32 % 2
def decidesP (S : St) (j : Nat) (v : Int32) : St × List Ms := (settlesP S j v, sendsP (settlesP S j v) (if v = 2 then 3 else 4) j)
def countsP (S : St) (d j : Nat) (b : Bool) : St × List Ms :=
  if sc S j 0 = 1 then (if b = false then decidesP S j 3 else if popc (sv S j ||| 1 <<< d) = (dks S j).length then decidesP (usv S j (sv S j ||| 1 <<< d)) j 2 else (usv S j (sv S j ||| 1 <<< d), [])) else (S, [])
def answersP (S : St) (d j : Nat) : St × List Ms := if sc S j 0 < 2 then (S, []) else (S, [mg S (decn S j) d j])
def toHost (kd : Nat) : Bool := kd == 1 || kd == 2 || kd == 5
def arrivesP (S : St) (m : Ms) : St × List Ms :=
  if (if toHost m.1 then sg S 3 else sk S m.2.1 1) = 0 then
    (if m.1 = 0 then invitedP S m.2.1 m.2.2.1 else if m.1 = 1 then countsP S m.2.1 m.2.2.1 true else if m.1 = 2 then countsP S m.2.1 m.2.2.1 false else if m.1 = 3 then (hearsP S m.2.1 m.2.2.1 true, []) else if m.1 = 4 then (hearsP S m.2.1 m.2.2.1 false, []) else answersP S m.2.1 m.2.2.1)
  else (usg S 4 (sg S 4 + 1), [])
def patP (j : Nat) (q : St × List Ms) : St × List Ms := if sg q.1 3 = 0 ∧ sc q.1 j 0 = 1 ∧ ¬ sg q.1 0 - sc q.1 j 1 < 12 then ((decidesP q.1 j 3).1, q.2 ++ (decidesP q.1 j 3).2) else q
def dbt (S : St) (i j : Nat) : Bool := decide (sk S i 1 = 0) && (decide (isD S j i) && (decide (hw S j i = 1) && (decide (¬ sg S 0 ≤ sc S j (4 + 4 * i + 3)) && decide ((sg S 0 - sc S j (4 + 4 * i + 3)) - (sg S 0 - sc S j (4 + 4 * i + 3)) / 8 * 8 = 0))))
def askT (S : St) (i j : Nat) (ms : List Ms) : List Ms := if dbt S i j = true then ms ++ [mg S 5 i j] else ms
def asksC (S : St) (i : Nat) (ms : List Ms) : List Ms := fo (askT S i) (nc S) 0 ms
def allAskP (S : St) (ms : List Ms) : List Ms := fo (asksC S) (nk S) 0 ms
def arr1 (q : St × List Ms) (m : Ms) : St × List Ms := ((arrivesP q.1 m).1, q.2 ++ (arrivesP q.1 m).2)
def arrAll (l : List Ms) (q : St × List Ms) : St × List Ms := l.foldl arr1 q
def isNow (S : St) (m : Ms) : Bool := decide (m.2.2.2 = sg S 0)
def thoseT (S : St) (v : Int32) (j : Nat) (s : Int32) : Int32 := if sc S j 0 = v then s + 1 else s
def thoseP (S : St) (v : Int32) : Int32 := fo (thoseT S v) (nc S) 0 0
def decidedP (S : St) : Int32 := thoseP S 2 + thoseP S 3
def faintT (S : St) (i : Nat) (s : Int32) : Int32 := if sk S i 1 = 0 then s else s + 1
def faintedP (S : St) : Int32 := fo (faintT S) (nk S) 0 (if sg S 3 = 0 then 0 else 1)
def minA (q : St × List Ms) : St × List Ms := arrAll (q.2.filter (isNow (usg q.1 0 (sg q.1 0 + 1)))) (usg q.1 0 (sg q.1 0 + 1), q.2.filter (fun m => !isNow (usg q.1 0 (sg q.1 0 + 1)) m))
def minB (q : St × List Ms) : St × List Ms := fo patP (nc (minA q).1) 0 (minA q)
def minP (q : St × List Ms) : St × List Ms := ((minB q).1, allAskP (minB q).1 (minB q).2)
def asksP (S : St) (j : Nat) : (Int32 × St × List Ms) ⊕ (Int32 × Int32) :=
  if sg S 3 = 0 then (if sc S j 0 = 0 then (if (dks S j).length = 0 then .inr (5, Int32.ofNat j) else .inl (Int32.ofNat (dks S j).length, usl (usc (usc S j 0 1) j 1 (sg S 0)) 0 (0, Int32.ofNat j, sg S 0), (dks S j).map (fun d => mg S 0 d j))) else .inr (3, sc S j 0)) else .inr (6, -1)
def cancelsP (S : St) (j : Nat) : (Int32 × St × List Ms) ⊕ (Int32 × Int32) :=
  if sg S 3 = 0 then (if sc S j 0 < 2 then .inl (Int32.ofNat (dks S j).length, (decidesP S j 3).1, (decidesP S j 3).2) else .inr (7, sc S j 0)) else .inr (6, -1)
def wv (w : Nat) : Int32 := if w = 0 then -1 else Int32.ofNat (w - 1)
def outS (S : St) (w : Nat) : Int32 := if w = 0 then sg S 3 else sk S (w - 1) 1
def setOut (S : St) (w : Nat) (v : Int32) : St := if w = 0 then usg S 3 v else usk S (w - 1) 1 v
def faintsP (S : St) (w : Nat) : (Int32 × St × List Ms) ⊕ (Int32 × Int32) := if outS S w = 0 then .inl (faintedP (setOut S w 1), setOut S w 1, []) else .inr (8, wv w)
def wk1 (j : Nat) (S : St) : St := if sc S j 0 = 1 then settlesP S j 3 else S
def wk2 (S : St) (j : Nat) (q : Int32 × List Ms) : Int32 × List Ms := if sc S j 0 < 2 then q else (q.1 + Int32.ofNat (dks S j).length, q.2 ++ sendsP S (decn S j) j)
def wk3 (S : St) (i j : Nat) (q : Int32 × List Ms) : Int32 × List Ms := if isD S j i ∧ hw S j i = 1 then (q.1 + 1, q.2 ++ [mg S 5 i j]) else q
def hostW (S : St) : St := fo wk1 (nc S) 0 S
def wakesP (S : St) (w : Nat) : (Int32 × St × List Ms) ⊕ (Int32 × Int32) :=
  if outS S w = 0 then .inr (8, wv w) else if w = 0 then .inl ((fo (wk2 (hostW (setOut S 0 0))) (nc S) 0 (0, [])).1, hostW (setOut S 0 0), (fo (wk2 (hostW (setOut S 0 0))) (nc S) 0 (0, [])).2)
  else .inl ((fo (wk3 (setOut S w 0) (w - 1)) (nc S) 0 (0, [])).1, setOut S w 0, (fo (wk3 (setOut S w 0) (w - 1)) (nc S) 0 (0, [])).2)
def learnsP (S : St) (d o j : Nat) : (Int32 × St × List Ms) ⊕ (Int32 × Int32) :=
  if isD S j d then (if isD S j o then (if hw S j d = 1 then (if sk S d 1 = 0 then (if sk S o 1 = 0 then (
    if hw S j o = 0 ∨ hw S j o = 1 then .inr (12, hw S j o) else .inl (hw (hearsP S d j (decide (hw S j o = 3))) j d, hearsP S d j (decide (hw S j o = 3)), []))
    else .inr (11, Int32.ofNat o)) else .inr (11, Int32.ofNat d)) else .inr (10, hw S j d)) else .inr (9, Int32.ofNat o)) else .inr (9, Int32.ofNat d)
def bringsP (S : St) (i ing : Nat) (a : Int32) : (Int32 × St × List Ms) ⊕ (Int32 × Int32) :=
  if 50 < sk S i (3 + ing) + a then .inr (2, sk S i (3 + ing) + a) else .inl (sk S i (3 + ing) + a, usk (usk S i (3 + ing) (sk S i (3 + ing) + a)) i (7 + ing) (sk S i (7 + ing) + a), [])
