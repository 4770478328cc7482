/-! what happens in a kitchen, in plain words -/
def fo {α : Type} (f : Nat → α → α) : Nat → Nat → α → α
  | 0, _, a => a
  | m + 1, k, a => fo f m (k + 1) (f k a)
def mg (S : St) (kd i j : Nat) : Ms := (kd, i, j, sg S 0 + sk S i 0)
def hw (S : St) (j d : Nat) : Int32 := sc S j (4 + 4 * d + 2)
def am (S : St) (j d : Nat) : Int32 := sc S j (4 + 4 * d + 1)
def ig (S : St) (j d : Nat) : Int32 := sc S j (4 + 4 * d) - 1
def ign (S : St) (j d : Nat) : Nat := (ig S j d).toNatClampNeg
def dks (S : St) (j : Nat) : List Nat := (List.range 6).filter (fun d => decide (isD S j d))
def becomesP (S : St) (j d : Nat) (v line : Int32) : St := usl (usc (usc S j (4 + 4 * d + 2) v) j (4 + 4 * d + 3) (sg S 0)) (d + 1) (line, Int32.ofNat j, sg S 0)
def resT (S : St) (i : Nat) (ing : Int32) (j : Nat) (s : Int32) : Int32 := if isD S j i ∧ hw S j i = 1 ∧ ig S j i = ing then s + am S j i else s
def reservedP (S : St) (i : Nat) (ing : Int32) : Int32 := fo (resT S i ing) (nc S) 0 0
def freeP (S : St) (i ing : Nat) : Int32 := sk S i (3 + ing) - reservedP S i (Int32.ofNat ing)
def settlesP (S : St) (j : Nat) (v : Int32) : St := usl (usc (usc S j 0 v) j 2 (sg S 0)) 0 (if v = 2 then 1 else 2, Int32.ofNat j, sg S 0)
def sendsP (S : St) (kd j : Nat) : List Ms := (dks S j).map (fun d => mg S kd d j)
def decn (S : St) (j : Nat) : Nat := if sc S j 0 = 2 then 3 else 4
def invitedP (S : St) (d j : Nat) : St × List Ms := if hw S j d = 0 then (if freeP S d (ign S j d) < am S j d then (becomesP S j d 2 4, [mg S 2 d j]) else (becomesP S j d 1 3, [mg S 1 d j])) else (S, [])
def servesP (S : St) (d : Nat) (ing : Nat) (a : Int32) : St := usk (usk S d (3 + ing) (sk S d (3 + ing) - a)) d (11 + ing) (sk S d (11 + ing) + a)
def hearsP (S : St) (d j : Nat) (b : Bool) : St := if b = true ∧ hw S j d = 1 then servesP (becomesP S j d 3 5) d (ign S j d) (am S j d) else if b = false ∧ (hw S j d = 0 ∨ hw S j d = 1) then becomesP S j d 4 6 else S
def popc (n : Nat) : Nat := n % 2 + n / 2 % 2 + n / 4 % 2 + n / 8 % 2 + n / 16 % 2 + n / 32 % 2
def decidesP (S : St) (j : Nat) (v : Int32) : St × List Ms := (settlesP S j v, sendsP (settlesP S j v) (if v = 2 then 3 else 4) j)
def countsP (S : St) (d j : Nat) (b : Bool) : St × List Ms :=
  if sc S j 0 = 1 then (if b = false then decidesP S j 3 else if popc (sv S j ||| 1 <<< d) = (dks S j).length then decidesP (usv S j (sv S j ||| 1 <<< d)) j 2 else (usv S j (sv S j ||| 1 <<< d), [])) else (S, [])
def answersP (S : St) (d j : Nat) : St × List Ms := if sc S j 0 < 2 then (S, []) else (S, [mg S (decn S j) d j])
def toHost (kd : Nat) : Bool := kd == 1 || kd == 2 || kd == 5
def arrivesP (S : St) (m : Ms) : St × List Ms :=
  if (if toHost m.1 then sg S 3 else sk S m.2.1 1) = 0 then
    (if m.1 = 0 then invitedP S m.2.1 m.2.2.1 else if m.1 = 1 then countsP S m.2.1 m.2.2.1 true else if m.1 = 2 then countsP S m.2.1 m.2.2.1 false else if m.1 = 3 then (hearsP S m.2.1 m.2.2.1 true, []) else if m.1 = 4 then (hearsP S m.2.1 m.2.2.1 false, []) else answersP S m.2.1 m.2.2.1)
  else (usg S 4 (sg S 4 + 1), [])
def patP (j : Nat) (q : St × List Ms) : St × List Ms := if sg q.1 3 = 0 ∧ sc q.1 j 0 = 1 ∧ ¬ sg q.1 0 - sc q.1 j 1 < 12 then ((decidesP q.1 j 3).1, q.2 ++ (decidesP q.1 j 3).2) else q
def dbt (S : St) (i j : Nat) : Bool := decide (sk S i 1 = 0) && (decide (isD S j i) && (decide (hw S j i = 1) && (decide (¬ sg S 0 ≤ sc S j (4 + 4 * i + 3)) && decide ((sg S 0 - sc S j (4 + 4 * i + 3)) - (sg S 0 - sc S j (4 + 4 * i + 3)) / 8 * 8 = 0))))
def askT (S : St) (i j : Nat) (ms : List Ms) : List Ms := if dbt S i j = true then ms ++ [mg S 5 i j] else ms
def asksC (S : St) (i : Nat) (ms : List Ms) : List Ms := fo (askT S i) (nc S) 0 ms
def allAskP (S : St) (ms : List Ms) : List Ms := fo (asksC S) (nk S) 0 ms
def arr1 (q : St × List Ms) (m : Ms) : St × List Ms := ((arrivesP q.1 m).1, q.2 ++ (arrivesP q.1 m).2)
def arrAll (l : List Ms) (q : St × List Ms) : St × List Ms := l.foldl arr1 q
def isNow (S : St) (m : Ms) : Bool := decide (m.2.2.2 = sg S 0)
