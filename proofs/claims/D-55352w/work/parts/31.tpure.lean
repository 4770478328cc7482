def PU {β : Type} (G : AH) (X : Option (β × AH)) : Prop := ∀ r, X = some r → r.2 = G
section PURE
variable {γ : GP} {G : AH} {β δ : Type}
theorem PU.no : PU G (none : Option (β × AH)) := fun _ e => by cases e
theorem PU.so {v : β} : PU G (some (v, G)) := fun _ e => by cases e; rfl
theorem PU.rt {ty : FieldType} {v : Int32} : PU G (rtN ty v G) := by
  unfold rtN
  split
  · exact PU.so
  · exact PU.no
theorem PU.ite {P1 : Prop} [Decidable P1] {X Y : Option (β × AH)} (h : PU G X) (k : PU G Y) : PU G (if P1 then X else Y) := by
  split
  · exact h
  · exact k
theorem PU.gR {a f : Nat} {K : Nat → Option (β × AH)} (k : ∀ v, PU G (K v)) : PU G (gR G a f K) := PU.ite (k _) PU.no
theorem PU.gI {a f : Nat} {K : Int32 → Option (β × AH)} (k : ∀ v, PU G (K v)) : PU G (gI G a f K) := PU.ite (k _) PU.no
theorem PU.gC {a : Nat} {L : List Nat} {X : Option (β × AH)} (k : PU G X) : PU G (gC G L a X) := PU.ite k PU.no
theorem PU.bR {X : Option (Nat × AH)} {K : Nat → AH → Option (β × AH)} (h : PU G X) (k : ∀ v, PU G (K v G)) : PU G (bR X K) := by
  intro r e
  cases X with
  | none => cases e
  | some q =>
    have := h q rfl
    have e2 : K q.1 q.2 = some r := e
    rw [this] at e2
    exact k q.1 r e2
theorem PU.bI {X : Option (Int32 × AH)} {K : Int32 → AH → Option (β × AH)} (h : PU G X) (k : ∀ v, PU G (K v G)) : PU G (bI X K) := by
  intro r e
  cases X with
  | none => cases e
  | some q =>
    have := h q rfl
    have e2 : K q.1 q.2 = some r := e
    rw [this] at e2
    exact k q.1 r e2
theorem pu_rnn {x : Nat} : PU G (f_J25_requireNonNull γ x G) := by
  unfold f_J25_requireNonNull
  repeat' (first
    | exact PU.no
    | exact PU.so
    | exact PU.rt
    | refine PU.gR (fun _ => ?_)
    | refine PU.gI (fun _ => ?_)
    | refine PU.gC ?_
    | refine PU.bR ?_ (fun _ => ?_)
    | refine PU.bI ?_ (fun _ => ?_)
    | refine PU.ite ?_ ?_
  )
theorem pu_cmp1 {x y : Int32} : PU G (f_J21_compare γ x y G) := by
  unfold f_J21_compare
  repeat' (first
    | exact PU.no
    | exact PU.so
    | exact PU.rt
    | exact pu_rnn
    | refine PU.gR (fun _ => ?_)
    | refine PU.gI (fun _ => ?_)
    | refine PU.gC ?_
    | refine PU.bR ?_ (fun _ => ?_)
    | refine PU.bI ?_ (fun _ => ?_)
    | refine PU.ite ?_ ?_
  )
theorem pu_cmp2 {x y : Nat} : PU G (f_J21_compareTo_2 γ x y G) := by
  unfold f_J21_compareTo_2
  repeat' (first
    | exact PU.no
    | exact PU.so
    | exact PU.rt
    | exact pu_rnn
    | exact pu_cmp1
    | refine PU.gR (fun _ => ?_)
    | refine PU.gI (fun _ => ?_)
    | refine PU.gC ?_
    | refine PU.bR ?_ (fun _ => ?_)
    | refine PU.bI ?_ (fun _ => ?_)
    | refine PU.ite ?_ ?_
  )
theorem pu_cmpTo {x y : Nat} : PU G (f_J21_compareTo γ x y G) := by
  unfold f_J21_compareTo
  repeat' (first
    | exact PU.no
    | exact PU.so
    | exact PU.rt
    | exact pu_rnn
    | exact pu_cmp1
    | exact pu_cmp2
    | refine PU.gR (fun _ => ?_)
    | refine PU.gI (fun _ => ?_)
    | refine PU.gC ?_
    | refine PU.bR ?_ (fun _ => ?_)
    | refine PU.bI ?_ (fun _ => ?_)
    | refine PU.ite ?_ ?_
  )
theorem pu_get_L28 {x : Nat} (n : Nat) : ∀ {y : Nat}, PU G (f_J28_getEntry_L28 γ x n y G) := by
  induction n with
  | zero => intros; exact PU.no
  | succ n ih =>
    intro y
    unfold f_J28_getEntry_L28
    repeat' (first
      | exact PU.no
      | exact PU.so
      | exact PU.rt
      | exact ih
      | exact pu_rnn
      | exact pu_cmp1
      | exact pu_cmp2
      | exact pu_cmpTo
      | refine PU.gR (fun _ => ?_)
      | refine PU.gI (fun _ => ?_)
      | refine PU.gC ?_
      | refine PU.bR ?_ (fun _ => ?_)
      | refine PU.bI ?_ (fun _ => ?_)
      | refine PU.ite ?_ ?_
    )
theorem pu_geuc {x y : Nat} : PU G (f_J28_getEntryUsingComparator γ x y G) := by
  unfold f_J28_getEntryUsingComparator
  repeat' (first
    | exact PU.no
    | exact PU.so
    | exact PU.rt
    | exact pu_rnn
    | exact pu_cmp1
    | exact pu_cmp2
    | exact pu_cmpTo
    | exact pu_get_L28 _
    | refine PU.gR (fun _ => ?_)
    | refine PU.gI (fun _ => ?_)
    | refine PU.gC ?_
    | refine PU.bR ?_ (fun _ => ?_)
    | refine PU.bI ?_ (fun _ => ?_)
    | refine PU.ite ?_ ?_
  )
theorem pu_getEntry {x y : Nat} : PU G (f_J28_getEntry γ x y G) := by
  unfold f_J28_getEntry
  repeat' (first
    | exact PU.no
    | exact PU.so
    | exact PU.rt
    | exact pu_rnn
    | exact pu_cmp1
    | exact pu_cmp2
    | exact pu_cmpTo
    | exact pu_get_L28 _
    | exact pu_geuc
    | refine PU.gR (fun _ => ?_)
    | refine PU.gI (fun _ => ?_)
    | refine PU.gC ?_
    | refine PU.bR ?_ (fun _ => ?_)
    | refine PU.bI ?_ (fun _ => ?_)
    | refine PU.ite ?_ ?_
  )
theorem pu_first_L9 {dummy : Nat} (n : Nat) : ∀ {x : Nat}, PU G (f_J28_getFirstEntry_L9 γ  n x G) := by
  induction n with
  | zero => intros; exact PU.no
  | succ n ih =>
    intro x
    unfold f_J28_getFirstEntry_L9
    repeat' (first
      | exact PU.no
      | exact PU.so
      | exact PU.rt
      | exact ih
      | exact pu_rnn
      | exact pu_cmp1
      | exact pu_cmp2
      | exact pu_cmpTo
      | exact pu_get_L28 _
      | exact pu_geuc
      | exact pu_getEntry
      | refine PU.gR (fun _ => ?_)
      | refine PU.gI (fun _ => ?_)
      | refine PU.gC ?_
      | refine PU.bR ?_ (fun _ => ?_)
      | refine PU.bI ?_ (fun _ => ?_)
      | refine PU.ite ?_ ?_
    )
theorem pu_first {x : Nat} : PU G (f_J28_getFirstEntry γ x G) := by
  unfold f_J28_getFirstEntry
  repeat' (first
    | exact PU.no
    | exact PU.so
    | exact PU.rt
    | exact pu_rnn
    | exact pu_cmp1
    | exact pu_cmp2
    | exact pu_cmpTo
    | exact pu_get_L28 _
    | exact pu_geuc
    | exact pu_getEntry
    | exact pu_first_L9 (dummy := 0) _
    | refine PU.gR (fun _ => ?_)
    | refine PU.gI (fun _ => ?_)
    | refine PU.gC ?_
    | refine PU.bR ?_ (fun _ => ?_)
    | refine PU.bI ?_ (fun _ => ?_)
    | refine PU.ite ?_ ?_
  )
theorem pu_succ_L42 {dummy : Nat} (n : Nat) : ∀ {x y : Nat}, PU G (f_J28_successor_L42 γ  n x y G) := by
  induction n with
  | zero => intros; exact PU.no
  | succ n ih =>
    intro x y
    unfold f_J28_successor_L42
    repeat' (first
      | exact PU.no
      | exact PU.so
      | exact PU.rt
      | exact ih
      | exact pu_rnn
      | exact pu_cmp1
      | exact pu_cmp2
      | exact pu_cmpTo
      | exact pu_get_L28 _
      | exact pu_geuc
      | exact pu_getEntry
      | exact pu_first_L9 (dummy := 0) _
      | exact pu_first
      | refine PU.gR (fun _ => ?_)
      | refine PU.gI (fun _ => ?_)
      | refine PU.gC ?_
      | refine PU.bR ?_ (fun _ => ?_)
      | refine PU.bI ?_ (fun _ => ?_)
      | refine PU.ite ?_ ?_
    )
theorem pu_succ_L18 {dummy : Nat} (n : Nat) : ∀ {x : Nat}, PU G (f_J28_successor_L18 γ  n x G) := by
  induction n with
  | zero => intros; exact PU.no
  | succ n ih =>
    intro x
    unfold f_J28_successor_L18
    repeat' (first
      | exact PU.no
      | exact PU.so
      | exact PU.rt
      | exact ih
      | exact pu_rnn
      | exact pu_cmp1
      | exact pu_cmp2
      | exact pu_cmpTo
      | exact pu_get_L28 _
      | exact pu_geuc
      | exact pu_getEntry
      | exact pu_first_L9 (dummy := 0) _
      | exact pu_first
      | exact pu_succ_L42 (dummy := 0) _
      | refine PU.gR (fun _ => ?_)
      | refine PU.gI (fun _ => ?_)
      | refine PU.gC ?_
      | refine PU.bR ?_ (fun _ => ?_)
      | refine PU.bI ?_ (fun _ => ?_)
      | refine PU.ite ?_ ?_
    )
theorem pu_succ {x : Nat} : PU G (f_J28_successor γ x G) := by
  unfold f_J28_successor
  repeat' (first
    | exact PU.no
    | exact PU.so
    | exact PU.rt
    | exact pu_rnn
    | exact pu_cmp1
    | exact pu_cmp2
    | exact pu_cmpTo
    | exact pu_get_L28 _
    | exact pu_geuc
    | exact pu_getEntry
    | exact pu_first_L9 (dummy := 0) _
    | exact pu_first
    | exact pu_succ_L42 (dummy := 0) _
    | exact pu_succ_L18 (dummy := 0) _
    | refine PU.gR (fun _ => ?_)
    | refine PU.gI (fun _ => ?_)
    | refine PU.gC ?_
    | refine PU.bR ?_ (fun _ => ?_)
    | refine PU.bI ?_ (fun _ => ?_)
    | refine PU.ite ?_ ?_
  )
end PURE
