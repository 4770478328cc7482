theorem RS_ok {T : List Nat} (h : T ∈ RS) : chkT T = true := by
  have e : RS.all chkT = true := by
    unfold RS
    simp only [List.all_append, RS0_ok, RS1_ok, RS2_ok, RS3_ok, RS4_ok, RS5_ok, RS6_ok, RS7_ok, RS8_ok, RS9_ok, RS10_ok, RS11_ok, RS12_ok, RS13_ok, Bool.and_self]
  exact List.all_eq_true.mp e T h
theorem mk_12 {T : List Nat} {i : Nat} (h : i < 6) : hK (mk T) (i + 1) = 12 := by
  show (if i + 1 = 0 then 0 else if i + 1 < 7 then 12 else _) = 12
  rw [if_neg (by omega), if_pos (by omega)]
theorem mk_22 {T : List Nat} {i : Nat} (h : i < 6) : hK (mk T) (i + 11) = if th T i then 22 else 0 := by
  show (if i + 11 = 0 then 0 else if i + 11 < 7 then 12 else if i + 11 = 7 then 15 else if i + 11 < 11 then 0 else if i + 11 < 17 then (if th T (i + 11 - 11) then 22 else 0) else _) = _
  rw [if_neg (by omega), if_neg (by omega), if_neg (by omega), if_neg (by omega), if_pos (by omega), Nat.add_sub_cancel]
theorem mk_23 {T : List Nat} {i : Nat} (h : i < 6) : hK (mk T) (20 + i) = if th T i then 23 else 0 := by
  show (if 20 + i = 0 then 0 else if 20 + i < 7 then 12 else if 20 + i = 7 then 15 else if 20 + i < 11 then 0 else if 20 + i < 17 then (if th T (20 + i - 11) then 22 else 0) else if 20 + i < 20 then 0 else if 20 + i < 26 then (if th T (20 + i - 20) then 23 else 0) else 0) = _
  rw [if_neg (by omega), if_neg (by omega), if_neg (by omega), if_neg (by omega), if_neg (by omega), if_neg (by omega), if_pos (by omega), show 20 + i - 20 = i from by omega]
theorem mk_0 {T : List Nat} {a : Nat} (h : 26 ≤ a) : hK (mk T) a = 0 := by
  show (if a = 0 then 0 else if a < 7 then 12 else if a = 7 then 15 else if a < 11 then 0 else if a < 17 then (if th T (a - 11) then 22 else 0) else if a < 20 then 0 else if a < 26 then (if th T (a - 20) then 23 else 0) else 0) = _
  rw [if_neg (by omega), if_neg (by omega), if_neg (by omega), if_neg (by omega), if_neg (by omega), if_neg (by omega), if_neg (by omega)]
/-- what lies in the small heap -/
theorem mk_cases {T : List Nat} {a : Nat} (h : hK (mk T) a ≠ 0) : (∃ i, i < 6 ∧ a = i + 1 ∧ hK (mk T) a = 12) ∨ (a = 7 ∧ hK (mk T) a = 15) ∨ (∃ i, i < 6 ∧ th T i = true ∧ a = i + 11 ∧ hK (mk T) a = 22) ∨ (∃ i, i < 6 ∧ th T i = true ∧ a = 20 + i ∧ hK (mk T) a = 23) := by
  have h' : (if a = 0 then 0 else if a < 7 then 12 else if a = 7 then 15 else if a < 11 then 0 else if a < 17 then (if th T (a - 11) then 22 else 0) else if a < 20 then 0 else if a < 26 then (if th T (a - 20) then 23 else 0) else 0) ≠ 0 := h
  by_cases c0 : a = 0
  · rw [if_pos c0] at h'; exact absurd rfl h'
  rw [if_neg c0] at h'
  by_cases c1 : a < 7
  · refine Or.inl ⟨a - 1, by omega, by omega, ?_⟩
    have := mk_12 (T := T) (i := a - 1) (by omega)
    rw [show a - 1 + 1 = a from by omega] at this
    exact this
  rw [if_neg c1] at h'
  by_cases c2 : a = 7
  · exact Or.inr (Or.inl ⟨c2, by rw [c2]; rfl⟩)
  rw [if_neg c2] at h'
  by_cases c3 : a < 11
  · rw [if_pos c3] at h'; exact absurd rfl h'
  rw [if_neg c3] at h'
  by_cases c4 : a < 17
  · rw [if_pos c4] at h'
    by_cases c5 : th T (a - 11) = true
    · refine Or.inr (Or.inr (Or.inl ⟨a - 11, by omega, c5, by omega, ?_⟩))
      have := mk_22 (T := T) (i := a - 11) (by omega)
      rw [show a - 11 + 11 = a from by omega, if_pos c5] at this
      exact this
    · rw [if_neg c5] at h'; exact absurd rfl h'
  rw [if_neg c4] at h'
  by_cases c6 : a < 20
  · rw [if_pos c6] at h'; exact absurd rfl h'
  rw [if_neg c6] at h'
  by_cases c7 : a < 26
  · rw [if_pos c7] at h'
    by_cases c5 : th T (a - 20) = true
    · refine Or.inr (Or.inr (Or.inr ⟨a - 20, by omega, c5, by omega, ?_⟩))
      have := mk_23 (T := T) (i := a - 20) (by omega)
      rw [show 20 + (a - 20) = a from by omega, if_pos c5] at this
      exact this
    · rw [if_neg c5] at h'; exact absurd rfl h'
  · rw [if_neg c7] at h'; exact absurd rfl h'
/-- the int i, boxed -/
def bx (γ : GP) (G : AH) (i : Nat) : Nat := hQ G (γ.1 9) (i + 128)
/-- the map at x: T its tree, m its values (0: none), en its entries -/
def TM (γ : GP) (G : AH) (x : Nat) (T : List Nat) (m en : Nat → Nat) : Prop :=
  T ∈ RS ∧ (∀ i, i < 6 → th T i = false → m i = 0 ∧ en i = 0) ∧ ∃ φ, Rl γ φ (hK (mk T)) (hS G, 26) (hM G) (fun a => a = x ∨ ∃ i, i < 6 ∧ th T i = true ∧ a = en i) G (mk T) G ∧ φ 7 = x ∧ (∀ i, i < 6 → φ (i + 1) = bx γ G i) ∧ ∀ i, i < 6 → th T i = true → φ (i + 11) = m i ∧ φ (20 + i) = en i
theorem Rl.rebase {γ : GP} {φ kd : Nat → Nat} {s : Nat × Nat} {m : Nat} {P P1 : Nat → Prop} {G0 C G : AH} (h : Rl γ φ kd s m P G0 C G) (hp : ∀ a, 6 < a → kd a = 15 ∨ kd a = 23 → P1 (φ a)) : Rl γ φ kd s m P1 G C G := by
  obtain ⟨h1, h2, h3, h4, h5, h6, h7, h8, h9⟩ := h
  exact ⟨h1, h2, h3, h4, h5, h6, hp, ⟨Fr.refl _ _, fun _ _ _ _ => rfl⟩, h9⟩
theorem opt_map {α β : Type} {x : Option α} {f : α → β} {b : β} (h : x.map f = some b) : ∃ r, x = some r ∧ f r = b := by
  cases x with
  | none => cases h
  | some r => exact ⟨r, rfl, by cases h; rfl⟩
section TMs
variable {γ : GP} {G : AH} {x : Nat} {T : List Nat} {m en : Nat → Nat}
theorem TM.chk (h : TM γ G x T m en) : chkR T = true ∧ ∀ i, i < 6 → th T i = false → chkP T i = true := by
  have c := RS_ok h.1
  unfold chkT at c
  have c1 := Bool.and_eq_true_iff.mp c
  refine ⟨c1.1, fun i hi ht => ?_⟩
  have := List.all_eq_true.mp c1.2 i (List.mem_range.mpr hi)
  rw [ht, Bool.false_or] at this
  exact this
theorem TM.at0 (h : TM γ G x T m en) : hK G x = 15 ∧ γ.2 < x ∧ hR G 69 x = 0 ∧ hI G 71 x = Int32.ofNat (tn T) ∧ Wf G := by
  obtain ⟨hT, ha, φ, R, p7, pk, pv⟩ := h
  obtain ⟨h1, h2, h3, h4, h5, h6, h7, h8, h9, h10⟩ := R
  have k7 : hK (mk T) 7 = 15 := rfl
  have q := h4 7 (by rw [k7]; decide)
  rw [p7] at q
  refine ⟨q, ?_, ?_, ?_, h9⟩
  · have := h6 7 (by decide) (by rw [k7]; decide)
    rw [p7] at this; exact this
  · have := (h5.2 7 69 (by rw [k7]; decide)).2
    rw [p7] at this
    rw [this]; exact h2
  · have := h5.1 7 71 (by rw [k7]; decide)
    rw [p7] at this
    exact this
theorem TM.ent (h : TM γ G x T m en) {i : Nat} (hi : i < 6) (ht : th T i = true) : hK G (en i) = 23 ∧ γ.2 < en i ∧ hR G 97 (en i) = bx γ G i ∧ hR G 98 (en i) = m i ∧ hK G (m i) = 22 ∧ γ.2 < m i := by
  obtain ⟨hT, ha, φ, R, p7, pk, pv⟩ := h
  obtain ⟨h1, h2, h3, h4, h5, h6, h7, h8, h9, h10⟩ := R
  have k := mk_23 (T := T) hi
  rw [if_pos ht] at k
  have kv := mk_22 (T := T) hi
  rw [if_pos ht] at kv
  obtain ⟨e1, e2⟩ := pv i hi ht
  rw [← e1, ← e2]
  have f97 := (h5.2 (20 + i) 97 (by rw [k]; decide)).2
  have f98 := (h5.2 (20 + i) 98 (by rw [k]; decide)).2
  have m97 : hR (mk T) 97 (20 + i) = i + 1 := by
    show (if 20 + i < 7 then 0 else if 20 + i = 7 then _ else 20 + i - 19) = i + 1
    rw [if_neg (by omega), if_neg (by omega)]
    omega
  have m98 : hR (mk T) 98 (20 + i) = i + 11 := by
    show (if 20 + i < 7 then 0 else if 20 + i = 7 then _ else 20 + i - 9) = i + 11
    rw [if_neg (by omega), if_neg (by omega)]
    omega
  rw [m97, pk i hi] at f97
  rw [m98] at f98
  exact ⟨by rw [h4 _ (by rw [k]; decide)]; exact k, h6 _ (by omega) (by rw [k]; decide), f97, f98, by rw [h4 _ (by rw [kv]; decide)]; exact kv, h6 _ (by omega) (by rw [kv]; decide)⟩
theorem TM.key (h : TM γ G x T m en) {i : Nat} (hi : i < 6) : hK G (bx γ G i) = 12 ∧ hI G 61 (bx γ G i) = Int32.ofNat i := by
  obtain ⟨hT, ha, φ, R, p7, pk, pv⟩ := h
  obtain ⟨h1, h2, h3, h4, h5, h6, h7, h8, h9, h10⟩ := R
  have k := mk_12 (T := T) hi
  rw [← pk i hi]
  refine ⟨by rw [h4 _ (by rw [k]; decide)]; exact k, ?_⟩
  rw [h5.1 (i + 1) 61 (by rw [k]; decide)]
  rfl
theorem TM.mi (h : TM γ G x T m en) {i : Nat} (hi : i < 6) : (th T i = true → m i ≠ 0 ∧ en i ≠ 0) ∧ (m i ≠ 0 → th T i = true) := by
  refine ⟨fun ht => ?_, fun hm => ?_⟩
  · have e := h.ent hi ht
    have w := h.at0.2.2.2.2
    have q1 := w.2 (en i) (by rw [e.1]; decide)
    have q2 := w.2 (m i) (by rw [e.2.2.2.2.1]; decide)
    omega
  · cases ht : th T i with
    | true => rfl
    | false => exact absurd (h.2.1 i hi ht).1 hm
theorem TM.inj (h : TM γ G x T m en) {i j : Nat} (hi : i < 6) (hj : j < 6) (ti : th T i = true) (tj : th T j = true) : (m i = m j → i = j) ∧ (en i = en j → i = j) := by
  obtain ⟨hT, ha, φ, R, p7, pk, pv⟩ := h
  obtain ⟨h1, h2, h3, h4, h5, h6, h7, h8, h9, h10⟩ := R
  have k1 := mk_23 (T := T) hi
  have k2 := mk_23 (T := T) hj
  have v1 := mk_22 (T := T) hi
  have v2 := mk_22 (T := T) hj
  rw [if_pos ti] at k1 v1
  rw [if_pos tj] at k2 v2
  refine ⟨fun e => ?_, fun e => ?_⟩
  · rw [← (pv i hi ti).1, ← (pv j hj tj).1] at e
    have := h3 _ _ (Or.inr (by rw [v1]; decide)) (Or.inr (by rw [v2]; decide)) e
    omega
  · rw [← (pv i hi ti).2, ← (pv j hj tj).2] at e
    have := h3 _ _ (Or.inr (by rw [k1]; decide)) (Or.inr (by rw [k2]; decide)) e
    omega
def enN (en : Nat → Nat) (k : Nat) : Nat := if k < 6 then en k else 0
theorem nx_lt {k : Nat} (h : nx T k < 6) : th T (nx T k) = true ∧ k ≤ nx T k := by
  unfold nx at h ⊢
  by_cases c0 : k ≤ 0 ∧ th T 0 = true
  · rw [if_pos c0] at h ⊢; exact ⟨c0.2, c0.1⟩
  rw [if_neg c0] at h ⊢
  by_cases c1 : k ≤ 1 ∧ th T 1 = true
  · rw [if_pos c1] at h ⊢; exact ⟨c1.2, c1.1⟩
  rw [if_neg c1] at h ⊢
  by_cases c2 : k ≤ 2 ∧ th T 2 = true
  · rw [if_pos c2] at h ⊢; exact ⟨c2.2, c2.1⟩
  rw [if_neg c2] at h ⊢
  by_cases c3 : k ≤ 3 ∧ th T 3 = true
  · rw [if_pos c3] at h ⊢; exact ⟨c3.2, c3.1⟩
  rw [if_neg c3] at h ⊢
  by_cases c4 : k ≤ 4 ∧ th T 4 = true
  · rw [if_pos c4] at h ⊢; exact ⟨c4.2, c4.1⟩
  rw [if_neg c4] at h ⊢
  by_cases c5 : k ≤ 5 ∧ th T 5 = true
  · rw [if_pos c5] at h ⊢; exact ⟨c5.2, c5.1⟩
  rw [if_neg c5] at h
  omega
theorem TM.phi (h : TM γ G x T m en) {φ : Nat → Nat} (h0 : φ 0 = 0) (pv : ∀ i, i < 6 → th T i = true → φ (i + 11) = m i ∧ φ (20 + i) = en i) (k : Nat) : φ (ad T k) = if k < 6 then en k else 0 := by
  unfold ad
  by_cases c : k < 6 ∧ th T k = true
  · rw [if_pos c, if_pos c.1]; exact (pv k c.1 c.2).2
  · rw [if_neg c, h0]
    by_cases c1 : k < 6
    · rw [if_pos c1]
      cases ht : th T k with
      | true => exact absurd ⟨c1, ht⟩ c
      | false => exact (h.2.1 k c1 ht).2.symm
    · rw [if_neg c1]
theorem TM.getEntry (h : TM γ G x T m en) {i : Nat} (hi : i < 6) : f_J28_getEntry γ x (bx γ G i) G = some (en i, G) := by
  have h' := h
  obtain ⟨hT, ha, φ, R, p7, pk, pv⟩ := h
  have c := h'.chk.1
  unfold chkR at c
  have c1 := (Bool.and_eq_true_iff.mp (Bool.and_eq_true_iff.mp c).1).1
  obtain ⟨r, er, e1⟩ := opt_map (eq_of_beq (List.all_eq_true.mp c1 i (List.mem_range.mpr hi)))
  obtain ⟨r', e', o1, o2, o3⟩ := s_getEntry R (a0 := 7) (b0 := x) (a1 := i + 1) (b1 := bx γ G i) p7.symm (Or.inr (by rw [show hK (mk T) 7 = 15 from rfl]; decide)) (pk i hi).symm (Or.inr (by rw [mk_12 hi]; decide)) r er
  rw [e', show r' = (r'.1, r'.2) from rfl, pu_getEntry r' e', o3, e1, h'.phi R.2.1 pv, if_pos hi]
theorem TM.first (h : TM γ G x T m en) : f_J28_getFirstEntry γ x G = some (enN en (nx T 0), G) := by
  have h' := h
  obtain ⟨hT, ha, φ, R, p7, pk, pv⟩ := h
  have c := h'.chk.1
  unfold chkR at c
  have c1 := (Bool.and_eq_true_iff.mp (Bool.and_eq_true_iff.mp c).1).2
  obtain ⟨r, er, e1⟩ := opt_map (eq_of_beq c1)
  obtain ⟨r', e', o1, o2, o3⟩ := s_first R (a0 := 7) (b0 := x) p7.symm (Or.inr (by rw [show hK (mk T) 7 = 15 from rfl]; decide)) r er
  rw [e', show r' = (r'.1, r'.2) from rfl, pu_first r' e', o3, e1, h'.phi R.2.1 pv]
  rfl
theorem TM.succ (h : TM γ G x T m en) {i : Nat} (hi : i < 6) (ht : th T i = true) : f_J28_successor γ (en i) G = some (enN en (nx T (i + 1)), G) := by
  have h' := h
  obtain ⟨hT, ha, φ, R, p7, pk, pv⟩ := h
  have c := h'.chk.1
  unfold chkR at c
  have c1 := List.all_eq_true.mp (Bool.and_eq_true_iff.mp c).2 i (List.mem_range.mpr hi)
  rw [ht, Bool.not_true, Bool.false_or] at c1
  obtain ⟨r, er, e1⟩ := opt_map (eq_of_beq c1)
  have k := mk_23 (T := T) hi
  rw [if_pos ht] at k
  obtain ⟨r', e', o1, o2, o3⟩ := s_succ R (a0 := 20 + i) (b0 := en i) (pv i hi ht).2.symm (Or.inr (by rw [k]; decide)) r er
  rw [e', show r' = (r'.1, r'.2) from rfl, pu_succ r' e', o3, e1, h'.phi R.2.1 pv]
  rfl
end TMs
