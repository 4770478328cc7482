/-! the small trees: keys 1..6 (the ints 0..5), the map 7, the values 11..16, the entries 20..25; a table: root, then left, right, parent, colour + 1 of each -/
def tg (T : List Nat) (i : Nat) : Nat := T.getD i 0
def th (T : List Nat) (i : Nat) : Bool := tg T (4 * i + 4) != 0
def tn (T : List Nat) : Nat := ((List.range 6).filter (th T)).length
def mk (T : List Nat) : AH := ((26, 0),
  (fun a => if a = 0 then 0 else if a < 7 then 12 else if a = 7 then 15 else if a < 11 then 0 else if a < 17 then (if th T (a - 11) then 22 else 0) else if a < 20 then 0 else if a < 26 then (if th T (a - 20) then 23 else 0) else 0),
  (fun _ => 0),
  (fun f a => if f = 61 then Int32.ofNat (a - 1) else if f = 102 then Int32.ofNat (tg T (4 * (a - 20) + 4) - 1) else if a = 7 ∧ (f = 71 ∨ f = 72) then Int32.ofNat (tn T) else 0),
  (fun f a => if a < 7 then 0 else if a = 7 then (if f = 70 then tg T 0 else 0) else if f = 97 then a - 19 else if f = 98 then a - 9 else if f = 99 then tg T (4 * (a - 20) + 1) else if f = 100 then tg T (4 * (a - 20) + 2) else if f = 101 then tg T (4 * (a - 20) + 3) else 0),
  (fun _ _ => 0), (fun _ _ => 0), (fun _ _ => 0), (fun _ _ => 0))
def cpt (T : List Nat) (i : Nat) : Option (Nat × AH) := f_J28_put cγ 7 (i + 1) (i + 11) (sK (mk T) (i + 11) 22)
/-- the new entry, at 26, goes to 20 + i -/
def rσ (i a : Nat) : Nat := if a = 26 then 20 + i else a
def rρ (i a : Nat) : Nat := if a = 20 + i then 26 else a
def snp (C : AH) (T : List Nat) (i : Nat) : List Nat := rσ i (hR C 70 7) :: (List.range 6).flatMap (fun j => if th T j || j == i then [rσ i (hR C 99 (rρ i (20 + j))), rσ i (hR C 100 (rρ i (20 + j))), rσ i (hR C 101 (rρ i (20 + j))), (hI C 102 (rρ i (20 + j))).toNatClampNeg + 1] else [0, 0, 0, 0])
