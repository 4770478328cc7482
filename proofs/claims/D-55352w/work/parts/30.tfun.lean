section TFUN
variable {γ : GP} {φ kd : Nat → Nat} {s : Nat × Nat} {m : Nat} {P : Nat → Prop} {G0 C G : AH}
theorem s_rnn {a0 b0 : Nat} (h : Rl γ φ kd s m P G0 C G) (e0 : b0 = φ a0) (d0 : Dm kd a0) : SS (ON γ φ kd s m P G0) (f_J25_requireNonNull cγ a0 C) (f_J25_requireNonNull γ b0 G) := by
  have hz := h.2.1
  unfold f_J25_requireNonNull
  repeat' (first
      | exact SS.r_none
      | exact SS.oN (by assumption) (by first | rfl | assumption | exact hz.symm) (by first | assumption | exact Or.inl rfl)
      | exact SS.oI (by assumption)
      | exact SS.oV (by assumption)
      | exact SS.rt (by assumption)
      | refine SS.r_gR (by assumption) (by first | rfl | assumption | exact hz.symm) (by decide) (fun d => ?_)
      | refine SS.r_gI (by assumption) (by first | rfl | assumption | exact hz.symm) (by decide) ?_
      | refine SS.r_pR (by assumption) (by first | rfl | assumption | exact hz.symm) (by first | rfl | assumption | exact hz.symm) (by first | assumption | exact Or.inl rfl) (by decide) (fun d => ?_)
      | refine SS.r_pI (by assumption) (by first | rfl | assumption | exact hz.symm) (by decide) (fun d => ?_)
      | refine SS.r_gC (by assumption) (by first | rfl | assumption | exact hz.symm) (by decide) ?_
      | refine SS.r_bR (γ := γ) (φ := φ) (kd := kd) (s := s) (m := m) (P := P) (G0 := G0) ?_ (fun b C1 G1 h1 d1 => ?_)
      | refine SS.r_bI (γ := γ) (φ := φ) (kd := kd) (s := s) (m := m) (P := P) (G0 := G0) ?_ (fun b C1 G1 h1 => ?_)
      | refine SS.r_bV (γ := γ) (φ := φ) (kd := kd) (s := s) (m := m) (P := P) (G0 := G0) ?_ (fun C1 G1 h1 => ?_)
      | refine SS.iteK (by assumption) (by first | rfl | assumption | exact hz.symm) (by decide) (fun e => ?_)
      | refine SS.iteN (by assumption) (by first | assumption | exact Or.inl rfl) (by first | rfl | assumption | exact hz.symm) (fun e => ?_)
      | refine SS.iteA (by assumption) (by first | assumption | exact Or.inl rfl) (by first | assumption | exact Or.inl rfl) (by first | rfl | assumption | exact hz.symm) (by first | rfl | assumption | exact hz.symm) (fun e => ?_) (fun e => ?_)
      | refine SS.iteP (fun e => ?_) (fun e => ?_)
    )
theorem s_cmp1 {v0 : Int32} {v1 : Int32} (h : Rl γ φ kd s m P G0 C G)  : SS (OI γ φ kd s m P G0) (f_J21_compare cγ v0 v1 C) (f_J21_compare γ v0 v1 G) := by
  have hz := h.2.1
  unfold f_J21_compare
  repeat' (first
      | exact SS.r_none
      | exact SS.oN (by assumption) (by first | rfl | assumption | exact hz.symm) (by first | assumption | exact Or.inl rfl)
      | exact SS.oI (by assumption)
      | exact SS.oV (by assumption)
      | exact SS.rt (by assumption)
      | exact s_rnn (by assumption) (by first | rfl | assumption | exact hz.symm) (by first | assumption | exact Or.inl rfl)
      | refine SS.r_gR (by assumption) (by first | rfl | assumption | exact hz.symm) (by decide) (fun d => ?_)
      | refine SS.r_gI (by assumption) (by first | rfl | assumption | exact hz.symm) (by decide) ?_
      | refine SS.r_pR (by assumption) (by first | rfl | assumption | exact hz.symm) (by first | rfl | assumption | exact hz.symm) (by first | assumption | exact Or.inl rfl) (by decide) (fun d => ?_)
      | refine SS.r_pI (by assumption) (by first | rfl | assumption | exact hz.symm) (by decide) (fun d => ?_)
      | refine SS.r_gC (by assumption) (by first | rfl | assumption | exact hz.symm) (by decide) ?_
      | refine SS.r_bR (γ := γ) (φ := φ) (kd := kd) (s := s) (m := m) (P := P) (G0 := G0) ?_ (fun b C1 G1 h1 d1 => ?_)
      | refine SS.r_bI (γ := γ) (φ := φ) (kd := kd) (s := s) (m := m) (P := P) (G0 := G0) ?_ (fun b C1 G1 h1 => ?_)
      | refine SS.r_bV (γ := γ) (φ := φ) (kd := kd) (s := s) (m := m) (P := P) (G0 := G0) ?_ (fun C1 G1 h1 => ?_)
      | refine SS.iteK (by assumption) (by first | rfl | assumption | exact hz.symm) (by decide) (fun e => ?_)
      | refine SS.iteN (by assumption) (by first | assumption | exact Or.inl rfl) (by first | rfl | assumption | exact hz.symm) (fun e => ?_)
      | refine SS.iteA (by assumption) (by first | assumption | exact Or.inl rfl) (by first | assumption | exact Or.inl rfl) (by first | rfl | assumption | exact hz.symm) (by first | rfl | assumption | exact hz.symm) (fun e => ?_) (fun e => ?_)
      | refine SS.iteP (fun e => ?_) (fun e => ?_)
    )
theorem s_cmp2 {a0 b0 : Nat} {a1 b1 : Nat} (h : Rl γ φ kd s m P G0 C G) (e0 : b0 = φ a0) (d0 : Dm kd a0) (e1 : b1 = φ a1) (d1 : Dm kd a1) : SS (OI γ φ kd s m P G0) (f_J21_compareTo_2 cγ a0 a1 C) (f_J21_compareTo_2 γ b0 b1 G) := by
  have hz := h.2.1
  unfold f_J21_compareTo_2
  repeat' (first
      | exact SS.r_none
      | exact SS.oN (by assumption) (by first | rfl | assumption | exact hz.symm) (by first | assumption | exact Or.inl rfl)
      | exact SS.oI (by assumption)
      | exact SS.oV (by assumption)
      | exact SS.rt (by assumption)
      | exact s_rnn (by assumption) (by first | rfl | assumption | exact hz.symm) (by first | assumption | exact Or.inl rfl)
      | exact s_cmp1 (by assumption)
      | refine SS.r_gR (by assumption) (by first | rfl | assumption | exact hz.symm) (by decide) (fun d => ?_)
      | refine SS.r_gI (by assumption) (by first | rfl | assumption | exact hz.symm) (by decide) ?_
      | refine SS.r_pR (by assumption) (by first | rfl | assumption | exact hz.symm) (by first | rfl | assumption | exact hz.symm) (by first | assumption | exact Or.inl rfl) (by decide) (fun d => ?_)
      | refine SS.r_pI (by assumption) (by first | rfl | assumption | exact hz.symm) (by decide) (fun d => ?_)
      | refine SS.r_gC (by assumption) (by first | rfl | assumption | exact hz.symm) (by decide) ?_
      | refine SS.r_bR (γ := γ) (φ := φ) (kd := kd) (s := s) (m := m) (P := P) (G0 := G0) ?_ (fun b C1 G1 h1 d1 => ?_)
      | refine SS.r_bI (γ := γ) (φ := φ) (kd := kd) (s := s) (m := m) (P := P) (G0 := G0) ?_ (fun b C1 G1 h1 => ?_)
      | refine SS.r_bV (γ := γ) (φ := φ) (kd := kd) (s := s) (m := m) (P := P) (G0 := G0) ?_ (fun C1 G1 h1 => ?_)
      | refine SS.iteK (by assumption) (by first | rfl | assumption | exact hz.symm) (by decide) (fun e => ?_)
      | refine SS.iteN (by assumption) (by first | assumption | exact Or.inl rfl) (by first | rfl | assumption | exact hz.symm) (fun e => ?_)
      | refine SS.iteA (by assumption) (by first | assumption | exact Or.inl rfl) (by first | assumption | exact Or.inl rfl) (by first | rfl | assumption | exact hz.symm) (by first | rfl | assumption | exact hz.symm) (fun e => ?_) (fun e => ?_)
      | refine SS.iteP (fun e => ?_) (fun e => ?_)
    )
theorem s_cmpTo {a0 b0 : Nat} {a1 b1 : Nat} (h : Rl γ φ kd s m P G0 C G) (e0 : b0 = φ a0) (d0 : Dm kd a0) (e1 : b1 = φ a1) (d1 : Dm kd a1) : SS (OI γ φ kd s m P G0) (f_J21_compareTo cγ a0 a1 C) (f_J21_compareTo γ b0 b1 G) := by
  have hz := h.2.1
  unfold f_J21_compareTo
  repeat' (first
      | exact SS.r_none
      | exact SS.oN (by assumption) (by first | rfl | assumption | exact hz.symm) (by first | assumption | exact Or.inl rfl)
      | exact SS.oI (by assumption)
      | exact SS.oV (by assumption)
      | exact SS.rt (by assumption)
      | exact s_rnn (by assumption) (by first | rfl | assumption | exact hz.symm) (by first | assumption | exact Or.inl rfl)
      | exact s_cmp1 (by assumption)
      | exact s_cmp2 (by assumption) (by first | rfl | assumption | exact hz.symm) (by first | assumption | exact Or.inl rfl) (by first | rfl | assumption | exact hz.symm) (by first | assumption | exact Or.inl rfl)
      | refine SS.r_gR (by assumption) (by first | rfl | assumption | exact hz.symm) (by decide) (fun d => ?_)
      | refine SS.r_gI (by assumption) (by first | rfl | assumption | exact hz.symm) (by decide) ?_
      | refine SS.r_pR (by assumption) (by first | rfl | assumption | exact hz.symm) (by first | rfl | assumption | exact hz.symm) (by first | assumption | exact Or.inl rfl) (by decide) (fun d => ?_)
      | refine SS.r_pI (by assumption) (by first | rfl | assumption | exact hz.symm) (by decide) (fun d => ?_)
      | refine SS.r_gC (by assumption) (by first | rfl | assumption | exact hz.symm) (by decide) ?_
      | refine SS.r_bR (γ := γ) (φ := φ) (kd := kd) (s := s) (m := m) (P := P) (G0 := G0) ?_ (fun b C1 G1 h1 d1 => ?_)
      | refine SS.r_bI (γ := γ) (φ := φ) (kd := kd) (s := s) (m := m) (P := P) (G0 := G0) ?_ (fun b C1 G1 h1 => ?_)
      | refine SS.r_bV (γ := γ) (φ := φ) (kd := kd) (s := s) (m := m) (P := P) (G0 := G0) ?_ (fun C1 G1 h1 => ?_)
      | refine SS.iteK (by assumption) (by first | rfl | assumption | exact hz.symm) (by decide) (fun e => ?_)
      | refine SS.iteN (by assumption) (by first | assumption | exact Or.inl rfl) (by first | rfl | assumption | exact hz.symm) (fun e => ?_)
      | refine SS.iteA (by assumption) (by first | assumption | exact Or.inl rfl) (by first | assumption | exact Or.inl rfl) (by first | rfl | assumption | exact hz.symm) (by first | rfl | assumption | exact hz.symm) (fun e => ?_) (fun e => ?_)
      | refine SS.iteP (fun e => ?_) (fun e => ?_)
    )
theorem s_get_L28 (n : Nat) : ∀ {C G : AH} {a0 b0 : Nat} {a1 b1 : Nat} (h : Rl γ φ kd s m P G0 C G) (e0 : b0 = φ a0) (d0 : Dm kd a0) (e1 : b1 = φ a1) (d1 : Dm kd a1), SS (ON γ φ kd s m P G0) (f_J28_getEntry_L28 cγ a0 n a1 C) (f_J28_getEntry_L28 γ b0 n b1 G) := by
  induction n with
  | zero => intros; exact SS.r_none
  | succ n ih =>
    intro C G a0 b0 a1 b1 h e0 d0 e1 d1
    have hz := h.2.1
    unfold f_J28_getEntry_L28
    repeat' (first
        | exact SS.r_none
        | exact SS.oN (by assumption) (by first | rfl | assumption | exact hz.symm) (by first | assumption | exact Or.inl rfl)
        | exact SS.oI (by assumption)
        | exact SS.oV (by assumption)
        | exact SS.rt (by assumption)
        | exact ih (by assumption) (by first | rfl | assumption | exact hz.symm) (by first | assumption | exact Or.inl rfl) (by first | rfl | assumption | exact hz.symm) (by first | assumption | exact Or.inl rfl)
        | exact s_rnn (by assumption) (by first | rfl | assumption | exact hz.symm) (by first | assumption | exact Or.inl rfl)
        | exact s_cmp1 (by assumption)
        | exact s_cmp2 (by assumption) (by first | rfl | assumption | exact hz.symm) (by first | assumption | exact Or.inl rfl) (by first | rfl | assumption | exact hz.symm) (by first | assumption | exact Or.inl rfl)
        | exact s_cmpTo (by assumption) (by first | rfl | assumption | exact hz.symm) (by first | assumption | exact Or.inl rfl) (by first | rfl | assumption | exact hz.symm) (by first | assumption | exact Or.inl rfl)
        | refine SS.r_gR (by assumption) (by first | rfl | assumption | exact hz.symm) (by decide) (fun d => ?_)
        | refine SS.r_gI (by assumption) (by first | rfl | assumption | exact hz.symm) (by decide) ?_
        | refine SS.r_pR (by assumption) (by first | rfl | assumption | exact hz.symm) (by first | rfl | assumption | exact hz.symm) (by first | assumption | exact Or.inl rfl) (by decide) (fun d => ?_)
        | refine SS.r_pI (by assumption) (by first | rfl | assumption | exact hz.symm) (by decide) (fun d => ?_)
        | refine SS.r_gC (by assumption) (by first | rfl | assumption | exact hz.symm) (by decide) ?_
        | refine SS.r_bR (γ := γ) (φ := φ) (kd := kd) (s := s) (m := m) (P := P) (G0 := G0) ?_ (fun b C1 G1 h1 d1 => ?_)
        | refine SS.r_bI (γ := γ) (φ := φ) (kd := kd) (s := s) (m := m) (P := P) (G0 := G0) ?_ (fun b C1 G1 h1 => ?_)
        | refine SS.r_bV (γ := γ) (φ := φ) (kd := kd) (s := s) (m := m) (P := P) (G0 := G0) ?_ (fun C1 G1 h1 => ?_)
        | refine SS.iteK (by assumption) (by first | rfl | assumption | exact hz.symm) (by decide) (fun e => ?_)
        | refine SS.iteN (by assumption) (by first | assumption | exact Or.inl rfl) (by first | rfl | assumption | exact hz.symm) (fun e => ?_)
        | refine SS.iteA (by assumption) (by first | assumption | exact Or.inl rfl) (by first | assumption | exact Or.inl rfl) (by first | rfl | assumption | exact hz.symm) (by first | rfl | assumption | exact hz.symm) (fun e => ?_) (fun e => ?_)
        | refine SS.iteP (fun e => ?_) (fun e => ?_)
      )
theorem s_parentOf {a0 b0 : Nat} (h : Rl γ φ kd s m P G0 C G) (e0 : b0 = φ a0) (d0 : Dm kd a0) : SS (ON γ φ kd s m P G0) (f_J28_parentOf cγ a0 C) (f_J28_parentOf γ b0 G) := by
  have hz := h.2.1
  unfold f_J28_parentOf
  repeat' (first
      | exact SS.r_none
      | exact SS.oN (by assumption) (by first | rfl | assumption | exact hz.symm) (by first | assumption | exact Or.inl rfl)
      | exact SS.oI (by assumption)
      | exact SS.oV (by assumption)
      | exact SS.rt (by assumption)
      | exact s_rnn (by assumption) (by first | rfl | assumption | exact hz.symm) (by first | assumption | exact Or.inl rfl)
      | exact s_cmp1 (by assumption)
      | exact s_cmp2 (by assumption) (by first | rfl | assumption | exact hz.symm) (by first | assumption | exact Or.inl rfl) (by first | rfl | assumption | exact hz.symm) (by first | assumption | exact Or.inl rfl)
      | exact s_cmpTo (by assumption) (by first | rfl | assumption | exact hz.symm) (by first | assumption | exact Or.inl rfl) (by first | rfl | assumption | exact hz.symm) (by first | assumption | exact Or.inl rfl)
      | exact s_get_L28 _ (by assumption) (by first | rfl | assumption | exact hz.symm) (by first | assumption | exact Or.inl rfl) (by first | rfl | assumption | exact hz.symm) (by first | assumption | exact Or.inl rfl)
      | refine SS.r_gR (by assumption) (by first | rfl | assumption | exact hz.symm) (by decide) (fun d => ?_)
      | refine SS.r_gI (by assumption) (by first | rfl | assumption | exact hz.symm) (by decide) ?_
      | refine SS.r_pR (by assumption) (by first | rfl | assumption | exact hz.symm) (by first | rfl | assumption | exact hz.symm) (by first | assumption | exact Or.inl rfl) (by decide) (fun d => ?_)
      | refine SS.r_pI (by assumption) (by first | rfl | assumption | exact hz.symm) (by decide) (fun d => ?_)
      | refine SS.r_gC (by assumption) (by first | rfl | assumption | exact hz.symm) (by decide) ?_
      | refine SS.r_bR (γ := γ) (φ := φ) (kd := kd) (s := s) (m := m) (P := P) (G0 := G0) ?_ (fun b C1 G1 h1 d1 => ?_)
      | refine SS.r_bI (γ := γ) (φ := φ) (kd := kd) (s := s) (m := m) (P := P) (G0 := G0) ?_ (fun b C1 G1 h1 => ?_)
      | refine SS.r_bV (γ := γ) (φ := φ) (kd := kd) (s := s) (m := m) (P := P) (G0 := G0) ?_ (fun C1 G1 h1 => ?_)
      | refine SS.iteK (by assumption) (by first | rfl | assumption | exact hz.symm) (by decide) (fun e => ?_)
      | refine SS.iteN (by assumption) (by first | assumption | exact Or.inl rfl) (by first | rfl | assumption | exact hz.symm) (fun e => ?_)
      | refine SS.iteA (by assumption) (by first | assumption | exact Or.inl rfl) (by first | assumption | exact Or.inl rfl) (by first | rfl | assumption | exact hz.symm) (by first | rfl | assumption | exact hz.symm) (fun e => ?_) (fun e => ?_)
      | refine SS.iteP (fun e => ?_) (fun e => ?_)
    )
theorem s_leftOf {a0 b0 : Nat} (h : Rl γ φ kd s m P G0 C G) (e0 : b0 = φ a0) (d0 : Dm kd a0) : SS (ON γ φ kd s m P G0) (f_J28_leftOf cγ a0 C) (f_J28_leftOf γ b0 G) := by
  have hz := h.2.1
  unfold f_J28_leftOf
  repeat' (first
      | exact SS.r_none
      | exact SS.oN (by assumption) (by first | rfl | assumption | exact hz.symm) (by first | assumption | exact Or.inl rfl)
      | exact SS.oI (by assumption)
      | exact SS.oV (by assumption)
      | exact SS.rt (by assumption)
      | exact s_rnn (by assumption) (by first | rfl | assumption | exact hz.symm) (by first | assumption | exact Or.inl rfl)
      | exact s_cmp1 (by assumption)
      | exact s_cmp2 (by assumption) (by first | rfl | assumption | exact hz.symm) (by first | assumption | exact Or.inl rfl) (by first | rfl | assumption | exact hz.symm) (by first | assumption | exact Or.inl rfl)
      | exact s_cmpTo (by assumption) (by first | rfl | assumption | exact hz.symm) (by first | assumption | exact Or.inl rfl) (by first | rfl | assumption | exact hz.symm) (by first | assumption | exact Or.inl rfl)
      | exact s_get_L28 _ (by assumption) (by first | rfl | assumption | exact hz.symm) (by first | assumption | exact Or.inl rfl) (by first | rfl | assumption | exact hz.symm) (by first | assumption | exact Or.inl rfl)
      | exact s_parentOf (by assumption) (by first | rfl | assumption | exact hz.symm) (by first | assumption | exact Or.inl rfl)
      | refine SS.r_gR (by assumption) (by first | rfl | assumption | exact hz.symm) (by decide) (fun d => ?_)
      | refine SS.r_gI (by assumption) (by first | rfl | assumption | exact hz.symm) (by decide) ?_
      | refine SS.r_pR (by assumption) (by first | rfl | assumption | exact hz.symm) (by first | rfl | assumption | exact hz.symm) (by first | assumption | exact Or.inl rfl) (by decide) (fun d => ?_)
      | refine SS.r_pI (by assumption) (by first | rfl | assumption | exact hz.symm) (by decide) (fun d => ?_)
      | refine SS.r_gC (by assumption) (by first | rfl | assumption | exact hz.symm) (by decide) ?_
      | refine SS.r_bR (γ := γ) (φ := φ) (kd := kd) (s := s) (m := m) (P := P) (G0 := G0) ?_ (fun b C1 G1 h1 d1 => ?_)
      | refine SS.r_bI (γ := γ) (φ := φ) (kd := kd) (s := s) (m := m) (P := P) (G0 := G0) ?_ (fun b C1 G1 h1 => ?_)
      | refine SS.r_bV (γ := γ) (φ := φ) (kd := kd) (s := s) (m := m) (P := P) (G0 := G0) ?_ (fun C1 G1 h1 => ?_)
      | refine SS.iteK (by assumption) (by first | rfl | assumption | exact hz.symm) (by decide) (fun e => ?_)
      | refine SS.iteN (by assumption) (by first | assumption | exact Or.inl rfl) (by first | rfl | assumption | exact hz.symm) (fun e => ?_)
      | refine SS.iteA (by assumption) (by first | assumption | exact Or.inl rfl) (by first | assumption | exact Or.inl rfl) (by first | rfl | assumption | exact hz.symm) (by first | rfl | assumption | exact hz.symm) (fun e => ?_) (fun e => ?_)
      | refine SS.iteP (fun e => ?_) (fun e => ?_)
    )
theorem s_rightOf {a0 b0 : Nat} (h : Rl γ φ kd s m P G0 C G) (e0 : b0 = φ a0) (d0 : Dm kd a0) : SS (ON γ φ kd s m P G0) (f_J28_rightOf cγ a0 C) (f_J28_rightOf γ b0 G) := by
  have hz := h.2.1
  unfold f_J28_rightOf
  repeat' (first
      | exact SS.r_none
      | exact SS.oN (by assumption) (by first | rfl | assumption | exact hz.symm) (by first | assumption | exact Or.inl rfl)
      | exact SS.oI (by assumption)
      | exact SS.oV (by assumption)
      | exact SS.rt (by assumption)
      | exact s_rnn (by assumption) (by first | rfl | assumption | exact hz.symm) (by first | assumption | exact Or.inl rfl)
      | exact s_cmp1 (by assumption)
      | exact s_cmp2 (by assumption) (by first | rfl | assumption | exact hz.symm) (by first | assumption | exact Or.inl rfl) (by first | rfl | assumption | exact hz.symm) (by first | assumption | exact Or.inl rfl)
      | exact s_cmpTo (by assumption) (by first | rfl | assumption | exact hz.symm) (by first | assumption | exact Or.inl rfl) (by first | rfl | assumption | exact hz.symm) (by first | assumption | exact Or.inl rfl)
      | exact s_get_L28 _ (by assumption) (by first | rfl | assumption | exact hz.symm) (by first | assumption | exact Or.inl rfl) (by first | rfl | assumption | exact hz.symm) (by first | assumption | exact Or.inl rfl)
      | exact s_parentOf (by assumption) (by first | rfl | assumption | exact hz.symm) (by first | assumption | exact Or.inl rfl)
      | exact s_leftOf (by assumption) (by first | rfl | assumption | exact hz.symm) (by first | assumption | exact Or.inl rfl)
      | refine SS.r_gR (by assumption) (by first | rfl | assumption | exact hz.symm) (by decide) (fun d => ?_)
      | refine SS.r_gI (by assumption) (by first | rfl | assumption | exact hz.symm) (by decide) ?_
      | refine SS.r_pR (by assumption) (by first | rfl | assumption | exact hz.symm) (by first | rfl | assumption | exact hz.symm) (by first | assumption | exact Or.inl rfl) (by decide) (fun d => ?_)
      | refine SS.r_pI (by assumption) (by first | rfl | assumption | exact hz.symm) (by decide) (fun d => ?_)
      | refine SS.r_gC (by assumption) (by first | rfl | assumption | exact hz.symm) (by decide) ?_
      | refine SS.r_bR (γ := γ) (φ := φ) (kd := kd) (s := s) (m := m) (P := P) (G0 := G0) ?_ (fun b C1 G1 h1 d1 => ?_)
      | refine SS.r_bI (γ := γ) (φ := φ) (kd := kd) (s := s) (m := m) (P := P) (G0 := G0) ?_ (fun b C1 G1 h1 => ?_)
      | refine SS.r_bV (γ := γ) (φ := φ) (kd := kd) (s := s) (m := m) (P := P) (G0 := G0) ?_ (fun C1 G1 h1 => ?_)
      | refine SS.iteK (by assumption) (by first | rfl | assumption | exact hz.symm) (by decide) (fun e => ?_)
      | refine SS.iteN (by assumption) (by first | assumption | exact Or.inl rfl) (by first | rfl | assumption | exact hz.symm) (fun e => ?_)
      | refine SS.iteA (by assumption) (by first | assumption | exact Or.inl rfl) (by first | assumption | exact Or.inl rfl) (by first | rfl | assumption | exact hz.symm) (by first | rfl | assumption | exact hz.symm) (fun e => ?_) (fun e => ?_)
      | refine SS.iteP (fun e => ?_) (fun e => ?_)
    )
theorem s_colorOf {a0 b0 : Nat} (h : Rl γ φ kd s m P G0 C G) (e0 : b0 = φ a0) (d0 : Dm kd a0) : SS (OI γ φ kd s m P G0) (f_J28_colorOf cγ a0 C) (f_J28_colorOf γ b0 G) := by
  have hz := h.2.1
  unfold f_J28_colorOf
  repeat' (first
      | exact SS.r_none
      | exact SS.oN (by assumption) (by first | rfl | assumption | exact hz.symm) (by first | assumption | exact Or.inl rfl)
      | exact SS.oI (by assumption)
      | exact SS.oV (by assumption)
      | exact SS.rt (by assumption)
      | exact s_rnn (by assumption) (by first | rfl | assumption | exact hz.symm) (by first | assumption | exact Or.inl rfl)
      | exact s_cmp1 (by assumption)
      | exact s_cmp2 (by assumption) (by first | rfl | assumption | exact hz.symm) (by first | assumption | exact Or.inl rfl) (by first | rfl | assumption | exact hz.symm) (by first | assumption | exact Or.inl rfl)
      | exact s_cmpTo (by assumption) (by first | rfl | assumption | exact hz.symm) (by first | assumption | exact Or.inl rfl) (by first | rfl | assumption | exact hz.symm) (by first | assumption | exact Or.inl rfl)
      | exact s_get_L28 _ (by assumption) (by first | rfl | assumption | exact hz.symm) (by first | assumption | exact Or.inl rfl) (by first | rfl | assumption | exact hz.symm) (by first | assumption | exact Or.inl rfl)
      | exact s_parentOf (by assumption) (by first | rfl | assumption | exact hz.symm) (by first | assumption | exact Or.inl rfl)
      | exact s_leftOf (by assumption) (by first | rfl | assumption | exact hz.symm) (by first | assumption | exact Or.inl rfl)
      | exact s_rightOf (by assumption) (by first | rfl | assumption | exact hz.symm) (by first | assumption | exact Or.inl rfl)
      | refine SS.r_gR (by assumption) (by first | rfl | assumption | exact hz.symm) (by decide) (fun d => ?_)
      | refine SS.r_gI (by assumption) (by first | rfl | assumption | exact hz.symm) (by decide) ?_
      | refine SS.r_pR (by assumption) (by first | rfl | assumption | exact hz.symm) (by first | rfl | assumption | exact hz.symm) (by first | assumption | exact Or.inl rfl) (by decide) (fun d => ?_)
      | refine SS.r_pI (by assumption) (by first | rfl | assumption | exact hz.symm) (by decide) (fun d => ?_)
      | refine SS.r_gC (by assumption) (by first | rfl | assumption | exact hz.symm) (by decide) ?_
      | refine SS.r_bR (γ := γ) (φ := φ) (kd := kd) (s := s) (m := m) (P := P) (G0 := G0) ?_ (fun b C1 G1 h1 d1 => ?_)
      | refine SS.r_bI (γ := γ) (φ := φ) (kd := kd) (s := s) (m := m) (P := P) (G0 := G0) ?_ (fun b C1 G1 h1 => ?_)
      | refine SS.r_bV (γ := γ) (φ := φ) (kd := kd) (s := s) (m := m) (P := P) (G0 := G0) ?_ (fun C1 G1 h1 => ?_)
      | refine SS.iteK (by assumption) (by first | rfl | assumption | exact hz.symm) (by decide) (fun e => ?_)
      | refine SS.iteN (by assumption) (by first | assumption | exact Or.inl rfl) (by first | rfl | assumption | exact hz.symm) (fun e => ?_)
      | refine SS.iteA (by assumption) (by first | assumption | exact Or.inl rfl) (by first | assumption | exact Or.inl rfl) (by first | rfl | assumption | exact hz.symm) (by first | rfl | assumption | exact hz.symm) (fun e => ?_) (fun e => ?_)
      | refine SS.iteP (fun e => ?_) (fun e => ?_)
    )
theorem s_setColor {a0 b0 : Nat} {v1 : Int32} (h : Rl γ φ kd s m P G0 C G) (e0 : b0 = φ a0) (d0 : Dm kd a0) : SS (OV γ φ kd s m P G0) (f_J28_setColor cγ a0 v1 C) (f_J28_setColor γ b0 v1 G) := by
  have hz := h.2.1
  unfold f_J28_setColor
  repeat' (first
      | exact SS.r_none
      | exact SS.oN (by assumption) (by first | rfl | assumption | exact hz.symm) (by first | assumption | exact Or.inl rfl)
      | exact SS.oI (by assumption)
      | exact SS.oV (by assumption)
      | exact SS.rt (by assumption)
      | exact s_rnn (by assumption) (by first | rfl | assumption | exact hz.symm) (by first | assumption | exact Or.inl rfl)
      | exact s_cmp1 (by assumption)
      | exact s_cmp2 (by assumption) (by first | rfl | assumption | exact hz.symm) (by first | assumption | exact Or.inl rfl) (by first | rfl | assumption | exact hz.symm) (by first | assumption | exact Or.inl rfl)
      | exact s_cmpTo (by assumption) (by first | rfl | assumption | exact hz.symm) (by first | assumption | exact Or.inl rfl) (by first | rfl | assumption | exact hz.symm) (by first | assumption | exact Or.inl rfl)
      | exact s_get_L28 _ (by assumption) (by first | rfl | assumption | exact hz.symm) (by first | assumption | exact Or.inl rfl) (by first | rfl | assumption | exact hz.symm) (by first | assumption | exact Or.inl rfl)
      | exact s_parentOf (by assumption) (by first | rfl | assumption | exact hz.symm) (by first | assumption | exact Or.inl rfl)
      | exact s_leftOf (by assumption) (by first | rfl | assumption | exact hz.symm) (by first | assumption | exact Or.inl rfl)
      | exact s_rightOf (by assumption) (by first | rfl | assumption | exact hz.symm) (by first | assumption | exact Or.inl rfl)
      | exact s_colorOf (by assumption) (by first | rfl | assumption | exact hz.symm) (by first | assumption | exact Or.inl rfl)
      | refine SS.r_gR (by assumption) (by first | rfl | assumption | exact hz.symm) (by decide) (fun d => ?_)
      | refine SS.r_gI (by assumption) (by first | rfl | assumption | exact hz.symm) (by decide) ?_
      | refine SS.r_pR (by assumption) (by first | rfl | assumption | exact hz.symm) (by first | rfl | assumption | exact hz.symm) (by first | assumption | exact Or.inl rfl) (by decide) (fun d => ?_)
      | refine SS.r_pI (by assumption) (by first | rfl | assumption | exact hz.symm) (by decide) (fun d => ?_)
      | refine SS.r_gC (by assumption) (by first | rfl | assumption | exact hz.symm) (by decide) ?_
      | refine SS.r_bR (γ := γ) (φ := φ) (kd := kd) (s := s) (m := m) (P := P) (G0 := G0) ?_ (fun b C1 G1 h1 d1 => ?_)
      | refine SS.r_bI (γ := γ) (φ := φ) (kd := kd) (s := s) (m := m) (P := P) (G0 := G0) ?_ (fun b C1 G1 h1 => ?_)
      | refine SS.r_bV (γ := γ) (φ := φ) (kd := kd) (s := s) (m := m) (P := P) (G0 := G0) ?_ (fun C1 G1 h1 => ?_)
      | refine SS.iteK (by assumption) (by first | rfl | assumption | exact hz.symm) (by decide) (fun e => ?_)
      | refine SS.iteN (by assumption) (by first | assumption | exact Or.inl rfl) (by first | rfl | assumption | exact hz.symm) (fun e => ?_)
      | refine SS.iteA (by assumption) (by first | assumption | exact Or.inl rfl) (by first | assumption | exact Or.inl rfl) (by first | rfl | assumption | exact hz.symm) (by first | rfl | assumption | exact hz.symm) (fun e => ?_) (fun e => ?_)
      | refine SS.iteP (fun e => ?_) (fun e => ?_)
    )
theorem s_rotL {a0 b0 : Nat} {a1 b1 : Nat} (h : Rl γ φ kd s m P G0 C G) (e0 : b0 = φ a0) (d0 : Dm kd a0) (e1 : b1 = φ a1) (d1 : Dm kd a1) : SS (OV γ φ kd s m P G0) (f_J28_rotateLeft cγ a0 a1 C) (f_J28_rotateLeft γ b0 b1 G) := by
  have hz := h.2.1
  unfold f_J28_rotateLeft
  unfold jn
  repeat' (first
      | exact SS.r_none
      | exact SS.oN (by assumption) (by first | rfl | assumption | exact hz.symm) (by first | assumption | exact Or.inl rfl)
      | exact SS.oI (by assumption)
      | exact SS.oV (by assumption)
      | exact SS.rt (by assumption)
      | exact s_rnn (by assumption) (by first | rfl | assumption | exact hz.symm) (by first | assumption | exact Or.inl rfl)
      | exact s_cmp1 (by assumption)
      | exact s_cmp2 (by assumption) (by first | rfl | assumption | exact hz.symm) (by first | assumption | exact Or.inl rfl) (by first | rfl | assumption | exact hz.symm) (by first | assumption | exact Or.inl rfl)
      | exact s_cmpTo (by assumption) (by first | rfl | assumption | exact hz.symm) (by first | assumption | exact Or.inl rfl) (by first | rfl | assumption | exact hz.symm) (by first | assumption | exact Or.inl rfl)
      | exact s_get_L28 _ (by assumption) (by first | rfl | assumption | exact hz.symm) (by first | assumption | exact Or.inl rfl) (by first | rfl | assumption | exact hz.symm) (by first | assumption | exact Or.inl rfl)
      | exact s_parentOf (by assumption) (by first | rfl | assumption | exact hz.symm) (by first | assumption | exact Or.inl rfl)
      | exact s_leftOf (by assumption) (by first | rfl | assumption | exact hz.symm) (by first | assumption | exact Or.inl rfl)
      | exact s_rightOf (by assumption) (by first | rfl | assumption | exact hz.symm) (by first | assumption | exact Or.inl rfl)
      | exact s_colorOf (by assumption) (by first | rfl | assumption | exact hz.symm) (by first | assumption | exact Or.inl rfl)
      | exact s_setColor (by assumption) (by first | rfl | assumption | exact hz.symm) (by first | assumption | exact Or.inl rfl)
      | refine SS.r_gR (by assumption) (by first | rfl | assumption | exact hz.symm) (by decide) (fun d => ?_)
      | refine SS.r_gI (by assumption) (by first | rfl | assumption | exact hz.symm) (by decide) ?_
      | refine SS.r_pR (by assumption) (by first | rfl | assumption | exact hz.symm) (by first | rfl | assumption | exact hz.symm) (by first | assumption | exact Or.inl rfl) (by decide) (fun d => ?_)
      | refine SS.r_pI (by assumption) (by first | rfl | assumption | exact hz.symm) (by decide) (fun d => ?_)
      | refine SS.r_gC (by assumption) (by first | rfl | assumption | exact hz.symm) (by decide) ?_
      | refine SS.r_bR (γ := γ) (φ := φ) (kd := kd) (s := s) (m := m) (P := P) (G0 := G0) ?_ (fun b C1 G1 h1 d1 => ?_)
      | refine SS.r_bI (γ := γ) (φ := φ) (kd := kd) (s := s) (m := m) (P := P) (G0 := G0) ?_ (fun b C1 G1 h1 => ?_)
      | refine SS.r_bV (γ := γ) (φ := φ) (kd := kd) (s := s) (m := m) (P := P) (G0 := G0) ?_ (fun C1 G1 h1 => ?_)
      | refine SS.iteK (by assumption) (by first | rfl | assumption | exact hz.symm) (by decide) (fun e => ?_)
      | refine SS.iteN (by assumption) (by first | assumption | exact Or.inl rfl) (by first | rfl | assumption | exact hz.symm) (fun e => ?_)
      | refine SS.iteA (by assumption) (by first | assumption | exact Or.inl rfl) (by first | assumption | exact Or.inl rfl) (by first | rfl | assumption | exact hz.symm) (by first | rfl | assumption | exact hz.symm) (fun e => ?_) (fun e => ?_)
      | refine SS.iteP (fun e => ?_) (fun e => ?_)
    )
theorem s_rotR {a0 b0 : Nat} {a1 b1 : Nat} (h : Rl γ φ kd s m P G0 C G) (e0 : b0 = φ a0) (d0 : Dm kd a0) (e1 : b1 = φ a1) (d1 : Dm kd a1) : SS (OV γ φ kd s m P G0) (f_J28_rotateRight cγ a0 a1 C) (f_J28_rotateRight γ b0 b1 G) := by
  have hz := h.2.1
  unfold f_J28_rotateRight
  unfold jn
  repeat' (first
      | exact SS.r_none
      | exact SS.oN (by assumption) (by first | rfl | assumption | exact hz.symm) (by first | assumption | exact Or.inl rfl)
      | exact SS.oI (by assumption)
      | exact SS.oV (by assumption)
      | exact SS.rt (by assumption)
      | exact s_rnn (by assumption) (by first | rfl | assumption | exact hz.symm) (by first | assumption | exact Or.inl rfl)
      | exact s_cmp1 (by assumption)
      | exact s_cmp2 (by assumption) (by first | rfl | assumption | exact hz.symm) (by first | assumption | exact Or.inl rfl) (by first | rfl | assumption | exact hz.symm) (by first | assumption | exact Or.inl rfl)
      | exact s_cmpTo (by assumption) (by first | rfl | assumption | exact hz.symm) (by first | assumption | exact Or.inl rfl) (by first | rfl | assumption | exact hz.symm) (by first | assumption | exact Or.inl rfl)
      | exact s_get_L28 _ (by assumption) (by first | rfl | assumption | exact hz.symm) (by first | assumption | exact Or.inl rfl) (by first | rfl | assumption | exact hz.symm) (by first | assumption | exact Or.inl rfl)
      | exact s_parentOf (by assumption) (by first | rfl | assumption | exact hz.symm) (by first | assumption | exact Or.inl rfl)
      | exact s_leftOf (by assumption) (by first | rfl | assumption | exact hz.symm) (by first | assumption | exact Or.inl rfl)
      | exact s_rightOf (by assumption) (by first | rfl | assumption | exact hz.symm) (by first | assumption | exact Or.inl rfl)
      | exact s_colorOf (by assumption) (by first | rfl | assumption | exact hz.symm) (by first | assumption | exact Or.inl rfl)
      | exact s_setColor (by assumption) (by first | rfl | assumption | exact hz.symm) (by first | assumption | exact Or.inl rfl)
      | exact s_rotL (by assumption) (by first | rfl | assumption | exact hz.symm) (by first | assumption | exact Or.inl rfl) (by first | rfl | assumption | exact hz.symm) (by first | assumption | exact Or.inl rfl)
      | refine SS.r_gR (by assumption) (by first | rfl | assumption | exact hz.symm) (by decide) (fun d => ?_)
      | refine SS.r_gI (by assumption) (by first | rfl | assumption | exact hz.symm) (by decide) ?_
      | refine SS.r_pR (by assumption) (by first | rfl | assumption | exact hz.symm) (by first | rfl | assumption | exact hz.symm) (by first | assumption | exact Or.inl rfl) (by decide) (fun d => ?_)
      | refine SS.r_pI (by assumption) (by first | rfl | assumption | exact hz.symm) (by decide) (fun d => ?_)
      | refine SS.r_gC (by assumption) (by first | rfl | assumption | exact hz.symm) (by decide) ?_
      | refine SS.r_bR (γ := γ) (φ := φ) (kd := kd) (s := s) (m := m) (P := P) (G0 := G0) ?_ (fun b C1 G1 h1 d1 => ?_)
      | refine SS.r_bI (γ := γ) (φ := φ) (kd := kd) (s := s) (m := m) (P := P) (G0 := G0) ?_ (fun b C1 G1 h1 => ?_)
      | refine SS.r_bV (γ := γ) (φ := φ) (kd := kd) (s := s) (m := m) (P := P) (G0 := G0) ?_ (fun C1 G1 h1 => ?_)
      | refine SS.iteK (by assumption) (by first | rfl | assumption | exact hz.symm) (by decide) (fun e => ?_)
      | refine SS.iteN (by assumption) (by first | assumption | exact Or.inl rfl) (by first | rfl | assumption | exact hz.symm) (fun e => ?_)
      | refine SS.iteA (by assumption) (by first | assumption | exact Or.inl rfl) (by first | assumption | exact Or.inl rfl) (by first | rfl | assumption | exact hz.symm) (by first | rfl | assumption | exact hz.symm) (fun e => ?_) (fun e => ?_)
      | refine SS.iteP (fun e => ?_) (fun e => ?_)
    )
set_option maxHeartbeats 8000000 in
theorem s_fix_L5 (n : Nat) : ∀ {C G : AH} {a0 b0 : Nat} {a1 b1 : Nat} (h : Rl γ φ kd s m P G0 C G) (e0 : b0 = φ a0) (d0 : Dm kd a0) (e1 : b1 = φ a1) (d1 : Dm kd a1), SS (OV γ φ kd s m P G0) (f_J28_fixAfterInsertion_L5 cγ a0 n a1 C) (f_J28_fixAfterInsertion_L5 γ b0 n b1 G) := by
  induction n with
  | zero => intros; exact SS.r_none
  | succ n ih =>
    intro C G a0 b0 a1 b1 h e0 d0 e1 d1
    have hz := h.2.1
    unfold f_J28_fixAfterInsertion_L5
    unfold jn
    repeat' (first
        | exact SS.r_none
        | exact SS.oN (by assumption) (by first | rfl | assumption | exact hz.symm) (by first | assumption | exact Or.inl rfl)
        | exact SS.oI (by assumption)
        | exact SS.oV (by assumption)
        | exact SS.rt (by assumption)
        | exact ih (by assumption) (by first | rfl | assumption | exact hz.symm) (by first | assumption | exact Or.inl rfl) (by first | rfl | assumption | exact hz.symm) (by first | assumption | exact Or.inl rfl)
        | exact s_rnn (by assumption) (by first | rfl | assumption | exact hz.symm) (by first | assumption | exact Or.inl rfl)
        | exact s_cmp1 (by assumption)
        | exact s_cmp2 (by assumption) (by first | rfl | assumption | exact hz.symm) (by first | assumption | exact Or.inl rfl) (by first | rfl | assumption | exact hz.symm) (by first | assumption | exact Or.inl rfl)
        | exact s_cmpTo (by assumption) (by first | rfl | assumption | exact hz.symm) (by first | assumption | exact Or.inl rfl) (by first | rfl | assumption | exact hz.symm) (by first | assumption | exact Or.inl rfl)
        | exact s_get_L28 _ (by assumption) (by first | rfl | assumption | exact hz.symm) (by first | assumption | exact Or.inl rfl) (by first | rfl | assumption | exact hz.symm) (by first | assumption | exact Or.inl rfl)
        | exact s_parentOf (by assumption) (by first | rfl | assumption | exact hz.symm) (by first | assumption | exact Or.inl rfl)
        | exact s_leftOf (by assumption) (by first | rfl | assumption | exact hz.symm) (by first | assumption | exact Or.inl rfl)
        | exact s_rightOf (by assumption) (by first | rfl | assumption | exact hz.symm) (by first | assumption | exact Or.inl rfl)
        | exact s_colorOf (by assumption) (by first | rfl | assumption | exact hz.symm) (by first | assumption | exact Or.inl rfl)
        | exact s_setColor (by assumption) (by first | rfl | assumption | exact hz.symm) (by first | assumption | exact Or.inl rfl)
        | exact s_rotL (by assumption) (by first | rfl | assumption | exact hz.symm) (by first | assumption | exact Or.inl rfl) (by first | rfl | assumption | exact hz.symm) (by first | assumption | exact Or.inl rfl)
        | exact s_rotR (by assumption) (by first | rfl | assumption | exact hz.symm) (by first | assumption | exact Or.inl rfl) (by first | rfl | assumption | exact hz.symm) (by first | assumption | exact Or.inl rfl)
        | refine SS.r_gR (by assumption) (by first | rfl | assumption | exact hz.symm) (by decide) (fun d => ?_)
        | refine SS.r_gI (by assumption) (by first | rfl | assumption | exact hz.symm) (by decide) ?_
        | refine SS.r_pR (by assumption) (by first | rfl | assumption | exact hz.symm) (by first | rfl | assumption | exact hz.symm) (by first | assumption | exact Or.inl rfl) (by decide) (fun d => ?_)
        | refine SS.r_pI (by assumption) (by first | rfl | assumption | exact hz.symm) (by decide) (fun d => ?_)
        | refine SS.r_gC (by assumption) (by first | rfl | assumption | exact hz.symm) (by decide) ?_
        | refine SS.r_bR (γ := γ) (φ := φ) (kd := kd) (s := s) (m := m) (P := P) (G0 := G0) ?_ (fun b C1 G1 h1 d1 => ?_)
        | refine SS.r_bI (γ := γ) (φ := φ) (kd := kd) (s := s) (m := m) (P := P) (G0 := G0) ?_ (fun b C1 G1 h1 => ?_)
        | refine SS.r_bV (γ := γ) (φ := φ) (kd := kd) (s := s) (m := m) (P := P) (G0 := G0) ?_ (fun C1 G1 h1 => ?_)
        | refine SS.iteK (by assumption) (by first | rfl | assumption | exact hz.symm) (by decide) (fun e => ?_)
        | refine SS.iteN (by assumption) (by first | assumption | exact Or.inl rfl) (by first | rfl | assumption | exact hz.symm) (fun e => ?_)
        | refine SS.iteA (by assumption) (by first | assumption | exact Or.inl rfl) (by first | assumption | exact Or.inl rfl) (by first | rfl | assumption | exact hz.symm) (by first | rfl | assumption | exact hz.symm) (fun e => ?_) (fun e => ?_)
        | refine SS.iteP (fun e => ?_) (fun e => ?_)
      )
theorem s_fix {a0 b0 : Nat} {a1 b1 : Nat} (h : Rl γ φ kd s m P G0 C G) (e0 : b0 = φ a0) (d0 : Dm kd a0) (e1 : b1 = φ a1) (d1 : Dm kd a1) : SS (OV γ φ kd s m P G0) (f_J28_fixAfterInsertion cγ a0 a1 C) (f_J28_fixAfterInsertion γ b0 b1 G) := by
  have hz := h.2.1
  unfold f_J28_fixAfterInsertion
  repeat' (first
      | exact SS.r_none
      | exact SS.oN (by assumption) (by first | rfl | assumption | exact hz.symm) (by first | assumption | exact Or.inl rfl)
      | exact SS.oI (by assumption)
      | exact SS.oV (by assumption)
      | exact SS.rt (by assumption)
      | exact s_rnn (by assumption) (by first | rfl | assumption | exact hz.symm) (by first | assumption | exact Or.inl rfl)
      | exact s_cmp1 (by assumption)
      | exact s_cmp2 (by assumption) (by first | rfl | assumption | exact hz.symm) (by first | assumption | exact Or.inl rfl) (by first | rfl | assumption | exact hz.symm) (by first | assumption | exact Or.inl rfl)
      | exact s_cmpTo (by assumption) (by first | rfl | assumption | exact hz.symm) (by first | assumption | exact Or.inl rfl) (by first | rfl | assumption | exact hz.symm) (by first | assumption | exact Or.inl rfl)
      | exact s_get_L28 _ (by assumption) (by first | rfl | assumption | exact hz.symm) (by first | assumption | exact Or.inl rfl) (by first | rfl | assumption | exact hz.symm) (by first | assumption | exact Or.inl rfl)
      | exact s_parentOf (by assumption) (by first | rfl | assumption | exact hz.symm) (by first | assumption | exact Or.inl rfl)
      | exact s_leftOf (by assumption) (by first | rfl | assumption | exact hz.symm) (by first | assumption | exact Or.inl rfl)
      | exact s_rightOf (by assumption) (by first | rfl | assumption | exact hz.symm) (by first | assumption | exact Or.inl rfl)
      | exact s_colorOf (by assumption) (by first | rfl | assumption | exact hz.symm) (by first | assumption | exact Or.inl rfl)
      | exact s_setColor (by assumption) (by first | rfl | assumption | exact hz.symm) (by first | assumption | exact Or.inl rfl)
      | exact s_rotL (by assumption) (by first | rfl | assumption | exact hz.symm) (by first | assumption | exact Or.inl rfl) (by first | rfl | assumption | exact hz.symm) (by first | assumption | exact Or.inl rfl)
      | exact s_rotR (by assumption) (by first | rfl | assumption | exact hz.symm) (by first | assumption | exact Or.inl rfl) (by first | rfl | assumption | exact hz.symm) (by first | assumption | exact Or.inl rfl)
      | exact s_fix_L5 _ (by assumption) (by first | rfl | assumption | exact hz.symm) (by first | assumption | exact Or.inl rfl) (by first | rfl | assumption | exact hz.symm) (by first | assumption | exact Or.inl rfl)
      | refine SS.r_gR (by assumption) (by first | rfl | assumption | exact hz.symm) (by decide) (fun d => ?_)
      | refine SS.r_gI (by assumption) (by first | rfl | assumption | exact hz.symm) (by decide) ?_
      | refine SS.r_pR (by assumption) (by first | rfl | assumption | exact hz.symm) (by first | rfl | assumption | exact hz.symm) (by first | assumption | exact Or.inl rfl) (by decide) (fun d => ?_)
      | refine SS.r_pI (by assumption) (by first | rfl | assumption | exact hz.symm) (by decide) (fun d => ?_)
      | refine SS.r_gC (by assumption) (by first | rfl | assumption | exact hz.symm) (by decide) ?_
      | refine SS.r_bR (γ := γ) (φ := φ) (kd := kd) (s := s) (m := m) (P := P) (G0 := G0) ?_ (fun b C1 G1 h1 d1 => ?_)
      | refine SS.r_bI (γ := γ) (φ := φ) (kd := kd) (s := s) (m := m) (P := P) (G0 := G0) ?_ (fun b C1 G1 h1 => ?_)
      | refine SS.r_bV (γ := γ) (φ := φ) (kd := kd) (s := s) (m := m) (P := P) (G0 := G0) ?_ (fun C1 G1 h1 => ?_)
      | refine SS.iteK (by assumption) (by first | rfl | assumption | exact hz.symm) (by decide) (fun e => ?_)
      | refine SS.iteN (by assumption) (by first | assumption | exact Or.inl rfl) (by first | rfl | assumption | exact hz.symm) (fun e => ?_)
      | refine SS.iteA (by assumption) (by first | assumption | exact Or.inl rfl) (by first | assumption | exact Or.inl rfl) (by first | rfl | assumption | exact hz.symm) (by first | rfl | assumption | exact hz.symm) (fun e => ?_) (fun e => ?_)
      | refine SS.iteP (fun e => ?_) (fun e => ?_)
    )
theorem s_compare {a0 b0 : Nat} {a1 b1 : Nat} {a2 b2 : Nat} (h : Rl γ φ kd s m P G0 C G) (e0 : b0 = φ a0) (d0 : Dm kd a0) (e1 : b1 = φ a1) (d1 : Dm kd a1) (e2 : b2 = φ a2) (d2 : Dm kd a2) : SS (OI γ φ kd s m P G0) (f_J28_compare cγ a0 a1 a2 C) (f_J28_compare γ b0 b1 b2 G) := by
  have hz := h.2.1
  unfold f_J28_compare
  repeat' (first
      | exact SS.r_none
      | exact SS.oN (by assumption) (by first | rfl | assumption | exact hz.symm) (by first | assumption | exact Or.inl rfl)
      | exact SS.oI (by assumption)
      | exact SS.oV (by assumption)
      | exact SS.rt (by assumption)
      | exact s_rnn (by assumption) (by first | rfl | assumption | exact hz.symm) (by first | assumption | exact Or.inl rfl)
      | exact s_cmp1 (by assumption)
      | exact s_cmp2 (by assumption) (by first | rfl | assumption | exact hz.symm) (by first | assumption | exact Or.inl rfl) (by first | rfl | assumption | exact hz.symm) (by first | assumption | exact Or.inl rfl)
      | exact s_cmpTo (by assumption) (by first | rfl | assumption | exact hz.symm) (by first | assumption | exact Or.inl rfl) (by first | rfl | assumption | exact hz.symm) (by first | assumption | exact Or.inl rfl)
      | exact s_get_L28 _ (by assumption) (by first | rfl | assumption | exact hz.symm) (by first | assumption | exact Or.inl rfl) (by first | rfl | assumption | exact hz.symm) (by first | assumption | exact Or.inl rfl)
      | exact s_parentOf (by assumption) (by first | rfl | assumption | exact hz.symm) (by first | assumption | exact Or.inl rfl)
      | exact s_leftOf (by assumption) (by first | rfl | assumption | exact hz.symm) (by first | assumption | exact Or.inl rfl)
      | exact s_rightOf (by assumption) (by first | rfl | assumption | exact hz.symm) (by first | assumption | exact Or.inl rfl)
      | exact s_colorOf (by assumption) (by first | rfl | assumption | exact hz.symm) (by first | assumption | exact Or.inl rfl)
      | exact s_setColor (by assumption) (by first | rfl | assumption | exact hz.symm) (by first | assumption | exact Or.inl rfl)
      | exact s_rotL (by assumption) (by first | rfl | assumption | exact hz.symm) (by first | assumption | exact Or.inl rfl) (by first | rfl | assumption | exact hz.symm) (by first | assumption | exact Or.inl rfl)
      | exact s_rotR (by assumption) (by first | rfl | assumption | exact hz.symm) (by first | assumption | exact Or.inl rfl) (by first | rfl | assumption | exact hz.symm) (by first | assumption | exact Or.inl rfl)
      | exact s_fix_L5 _ (by assumption) (by first | rfl | assumption | exact hz.symm) (by first | assumption | exact Or.inl rfl) (by first | rfl | assumption | exact hz.symm) (by first | assumption | exact Or.inl rfl)
      | exact s_fix (by assumption) (by first | rfl | assumption | exact hz.symm) (by first | assumption | exact Or.inl rfl) (by first | rfl | assumption | exact hz.symm) (by first | assumption | exact Or.inl rfl)
      | refine SS.r_gR (by assumption) (by first | rfl | assumption | exact hz.symm) (by decide) (fun d => ?_)
      | refine SS.r_gI (by assumption) (by first | rfl | assumption | exact hz.symm) (by decide) ?_
      | refine SS.r_pR (by assumption) (by first | rfl | assumption | exact hz.symm) (by first | rfl | assumption | exact hz.symm) (by first | assumption | exact Or.inl rfl) (by decide) (fun d => ?_)
      | refine SS.r_pI (by assumption) (by first | rfl | assumption | exact hz.symm) (by decide) (fun d => ?_)
      | refine SS.r_gC (by assumption) (by first | rfl | assumption | exact hz.symm) (by decide) ?_
      | refine SS.r_bR (γ := γ) (φ := φ) (kd := kd) (s := s) (m := m) (P := P) (G0 := G0) ?_ (fun b C1 G1 h1 d1 => ?_)
      | refine SS.r_bI (γ := γ) (φ := φ) (kd := kd) (s := s) (m := m) (P := P) (G0 := G0) ?_ (fun b C1 G1 h1 => ?_)
      | refine SS.r_bV (γ := γ) (φ := φ) (kd := kd) (s := s) (m := m) (P := P) (G0 := G0) ?_ (fun C1 G1 h1 => ?_)
      | refine SS.iteK (by assumption) (by first | rfl | assumption | exact hz.symm) (by decide) (fun e => ?_)
      | refine SS.iteN (by assumption) (by first | assumption | exact Or.inl rfl) (by first | rfl | assumption | exact hz.symm) (fun e => ?_)
      | refine SS.iteA (by assumption) (by first | assumption | exact Or.inl rfl) (by first | assumption | exact Or.inl rfl) (by first | rfl | assumption | exact hz.symm) (by first | rfl | assumption | exact hz.symm) (fun e => ?_) (fun e => ?_)
      | refine SS.iteP (fun e => ?_) (fun e => ?_)
    )
theorem s_einit {a0 b0 : Nat} {a1 b1 : Nat} {a2 b2 : Nat} {a3 b3 : Nat} (h : Rl γ φ kd s m P G0 C G) (e0 : b0 = φ a0) (d0 : Dm kd a0) (e1 : b1 = φ a1) (d1 : Dm kd a1) (e2 : b2 = φ a2) (d2 : Dm kd a2) (e3 : b3 = φ a3) (d3 : Dm kd a3) : SS (OV γ φ kd s m P G0) (f_J39_init cγ a0 a1 a2 a3 C) (f_J39_init γ b0 b1 b2 b3 G) := by
  have hz := h.2.1
  unfold f_J39_init
  repeat' (first
      | exact SS.r_none
      | exact SS.oN (by assumption) (by first | rfl | assumption | exact hz.symm) (by first | assumption | exact Or.inl rfl)
      | exact SS.oI (by assumption)
      | exact SS.oV (by assumption)
      | exact SS.rt (by assumption)
      | exact s_rnn (by assumption) (by first | rfl | assumption | exact hz.symm) (by first | assumption | exact Or.inl rfl)
      | exact s_cmp1 (by assumption)
      | exact s_cmp2 (by assumption) (by first | rfl | assumption | exact hz.symm) (by first | assumption | exact Or.inl rfl) (by first | rfl | assumption | exact hz.symm) (by first | assumption | exact Or.inl rfl)
      | exact s_cmpTo (by assumption) (by first | rfl | assumption | exact hz.symm) (by first | assumption | exact Or.inl rfl) (by first | rfl | assumption | exact hz.symm) (by first | assumption | exact Or.inl rfl)
      | exact s_get_L28 _ (by assumption) (by first | rfl | assumption | exact hz.symm) (by first | assumption | exact Or.inl rfl) (by first | rfl | assumption | exact hz.symm) (by first | assumption | exact Or.inl rfl)
      | exact s_parentOf (by assumption) (by first | rfl | assumption | exact hz.symm) (by first | assumption | exact Or.inl rfl)
      | exact s_leftOf (by assumption) (by first | rfl | assumption | exact hz.symm) (by first | assumption | exact Or.inl rfl)
      | exact s_rightOf (by assumption) (by first | rfl | assumption | exact hz.symm) (by first | assumption | exact Or.inl rfl)
      | exact s_colorOf (by assumption) (by first | rfl | assumption | exact hz.symm) (by first | assumption | exact Or.inl rfl)
      | exact s_setColor (by assumption) (by first | rfl | assumption | exact hz.symm) (by first | assumption | exact Or.inl rfl)
      | exact s_rotL (by assumption) (by first | rfl | assumption | exact hz.symm) (by first | assumption | exact Or.inl rfl) (by first | rfl | assumption | exact hz.symm) (by first | assumption | exact Or.inl rfl)
      | exact s_rotR (by assumption) (by first | rfl | assumption | exact hz.symm) (by first | assumption | exact Or.inl rfl) (by first | rfl | assumption | exact hz.symm) (by first | assumption | exact Or.inl rfl)
      | exact s_fix_L5 _ (by assumption) (by first | rfl | assumption | exact hz.symm) (by first | assumption | exact Or.inl rfl) (by first | rfl | assumption | exact hz.symm) (by first | assumption | exact Or.inl rfl)
      | exact s_fix (by assumption) (by first | rfl | assumption | exact hz.symm) (by first | assumption | exact Or.inl rfl) (by first | rfl | assumption | exact hz.symm) (by first | assumption | exact Or.inl rfl)
      | exact s_compare (by assumption) (by first | rfl | assumption | exact hz.symm) (by first | assumption | exact Or.inl rfl) (by first | rfl | assumption | exact hz.symm) (by first | assumption | exact Or.inl rfl) (by first | rfl | assumption | exact hz.symm) (by first | assumption | exact Or.inl rfl)
      | refine SS.r_gR (by assumption) (by first | rfl | assumption | exact hz.symm) (by decide) (fun d => ?_)
      | refine SS.r_gI (by assumption) (by first | rfl | assumption | exact hz.symm) (by decide) ?_
      | refine SS.r_pR (by assumption) (by first | rfl | assumption | exact hz.symm) (by first | rfl | assumption | exact hz.symm) (by first | assumption | exact Or.inl rfl) (by decide) (fun d => ?_)
      | refine SS.r_pI (by assumption) (by first | rfl | assumption | exact hz.symm) (by decide) (fun d => ?_)
      | refine SS.r_gC (by assumption) (by first | rfl | assumption | exact hz.symm) (by decide) ?_
      | refine SS.r_bR (γ := γ) (φ := φ) (kd := kd) (s := s) (m := m) (P := P) (G0 := G0) ?_ (fun b C1 G1 h1 d1 => ?_)
      | refine SS.r_bI (γ := γ) (φ := φ) (kd := kd) (s := s) (m := m) (P := P) (G0 := G0) ?_ (fun b C1 G1 h1 => ?_)
      | refine SS.r_bV (γ := γ) (φ := φ) (kd := kd) (s := s) (m := m) (P := P) (G0 := G0) ?_ (fun C1 G1 h1 => ?_)
      | refine SS.iteK (by assumption) (by first | rfl | assumption | exact hz.symm) (by decide) (fun e => ?_)
      | refine SS.iteN (by assumption) (by first | assumption | exact Or.inl rfl) (by first | rfl | assumption | exact hz.symm) (fun e => ?_)
      | refine SS.iteA (by assumption) (by first | assumption | exact Or.inl rfl) (by first | assumption | exact Or.inl rfl) (by first | rfl | assumption | exact hz.symm) (by first | rfl | assumption | exact hz.symm) (fun e => ?_) (fun e => ?_)
      | refine SS.iteP (fun e => ?_) (fun e => ?_)
    )
theorem s_first_L9 (n : Nat) : ∀ {C G : AH} {a0 b0 : Nat} (h : Rl γ φ kd s m P G0 C G) (e0 : b0 = φ a0) (d0 : Dm kd a0), SS (ON γ φ kd s m P G0) (f_J28_getFirstEntry_L9 cγ  n a0 C) (f_J28_getFirstEntry_L9 γ  n b0 G) := by
  induction n with
  | zero => intros; exact SS.r_none
  | succ n ih =>
    intro C G a0 b0 h e0 d0
    have hz := h.2.1
    unfold f_J28_getFirstEntry_L9
    repeat' (first
        | exact SS.r_none
        | exact SS.oN (by assumption) (by first | rfl | assumption | exact hz.symm) (by first | assumption | exact Or.inl rfl)
        | exact SS.oI (by assumption)
        | exact SS.oV (by assumption)
        | exact SS.rt (by assumption)
        | exact ih (by assumption) (by first | rfl | assumption | exact hz.symm) (by first | assumption | exact Or.inl rfl)
        | exact s_rnn (by assumption) (by first | rfl | assumption | exact hz.symm) (by first | assumption | exact Or.inl rfl)
        | exact s_cmp1 (by assumption)
        | exact s_cmp2 (by assumption) (by first | rfl | assumption | exact hz.symm) (by first | assumption | exact Or.inl rfl) (by first | rfl | assumption | exact hz.symm) (by first | assumption | exact Or.inl rfl)
        | exact s_cmpTo (by assumption) (by first | rfl | assumption | exact hz.symm) (by first | assumption | exact Or.inl rfl) (by first | rfl | assumption | exact hz.symm) (by first | assumption | exact Or.inl rfl)
        | exact s_get_L28 _ (by assumption) (by first | rfl | assumption | exact hz.symm) (by first | assumption | exact Or.inl rfl) (by first | rfl | assumption | exact hz.symm) (by first | assumption | exact Or.inl rfl)
        | exact s_parentOf (by assumption) (by first | rfl | assumption | exact hz.symm) (by first | assumption | exact Or.inl rfl)
        | exact s_leftOf (by assumption) (by first | rfl | assumption | exact hz.symm) (by first | assumption | exact Or.inl rfl)
        | exact s_rightOf (by assumption) (by first | rfl | assumption | exact hz.symm) (by first | assumption | exact Or.inl rfl)
        | exact s_colorOf (by assumption) (by first | rfl | assumption | exact hz.symm) (by first | assumption | exact Or.inl rfl)
        | exact s_setColor (by assumption) (by first | rfl | assumption | exact hz.symm) (by first | assumption | exact Or.inl rfl)
        | exact s_rotL (by assumption) (by first | rfl | assumption | exact hz.symm) (by first | assumption | exact Or.inl rfl) (by first | rfl | assumption | exact hz.symm) (by first | assumption | exact Or.inl rfl)
        | exact s_rotR (by assumption) (by first | rfl | assumption | exact hz.symm) (by first | assumption | exact Or.inl rfl) (by first | rfl | assumption | exact hz.symm) (by first | assumption | exact Or.inl rfl)
        | exact s_fix_L5 _ (by assumption) (by first | rfl | assumption | exact hz.symm) (by first | assumption | exact Or.inl rfl) (by first | rfl | assumption | exact hz.symm) (by first | assumption | exact Or.inl rfl)
        | exact s_fix (by assumption) (by first | rfl | assumption | exact hz.symm) (by first | assumption | exact Or.inl rfl) (by first | rfl | assumption | exact hz.symm) (by first | assumption | exact Or.inl rfl)
        | exact s_compare (by assumption) (by first | rfl | assumption | exact hz.symm) (by first | assumption | exact Or.inl rfl) (by first | rfl | assumption | exact hz.symm) (by first | assumption | exact Or.inl rfl) (by first | rfl | assumption | exact hz.symm) (by first | assumption | exact Or.inl rfl)
        | exact s_einit (by assumption) (by first | rfl | assumption | exact hz.symm) (by first | assumption | exact Or.inl rfl) (by first | rfl | assumption | exact hz.symm) (by first | assumption | exact Or.inl rfl) (by first | rfl | assumption | exact hz.symm) (by first | assumption | exact Or.inl rfl) (by first | rfl | assumption | exact hz.symm) (by first | assumption | exact Or.inl rfl)
        | refine SS.r_gR (by assumption) (by first | rfl | assumption | exact hz.symm) (by decide) (fun d => ?_)
        | refine SS.r_gI (by assumption) (by first | rfl | assumption | exact hz.symm) (by decide) ?_
        | refine SS.r_pR (by assumption) (by first | rfl | assumption | exact hz.symm) (by first | rfl | assumption | exact hz.symm) (by first | assumption | exact Or.inl rfl) (by decide) (fun d => ?_)
        | refine SS.r_pI (by assumption) (by first | rfl | assumption | exact hz.symm) (by decide) (fun d => ?_)
        | refine SS.r_gC (by assumption) (by first | rfl | assumption | exact hz.symm) (by decide) ?_
        | refine SS.r_bR (γ := γ) (φ := φ) (kd := kd) (s := s) (m := m) (P := P) (G0 := G0) ?_ (fun b C1 G1 h1 d1 => ?_)
        | refine SS.r_bI (γ := γ) (φ := φ) (kd := kd) (s := s) (m := m) (P := P) (G0 := G0) ?_ (fun b C1 G1 h1 => ?_)
        | refine SS.r_bV (γ := γ) (φ := φ) (kd := kd) (s := s) (m := m) (P := P) (G0 := G0) ?_ (fun C1 G1 h1 => ?_)
        | refine SS.iteK (by assumption) (by first | rfl | assumption | exact hz.symm) (by decide) (fun e => ?_)
        | refine SS.iteN (by assumption) (by first | assumption | exact Or.inl rfl) (by first | rfl | assumption | exact hz.symm) (fun e => ?_)
        | refine SS.iteA (by assumption) (by first | assumption | exact Or.inl rfl) (by first | assumption | exact Or.inl rfl) (by first | rfl | assumption | exact hz.symm) (by first | rfl | assumption | exact hz.symm) (fun e => ?_) (fun e => ?_)
        | refine SS.iteP (fun e => ?_) (fun e => ?_)
      )
theorem s_first {a0 b0 : Nat} (h : Rl γ φ kd s m P G0 C G) (e0 : b0 = φ a0) (d0 : Dm kd a0) : SS (ON γ φ kd s m P G0) (f_J28_getFirstEntry cγ a0 C) (f_J28_getFirstEntry γ b0 G) := by
  have hz := h.2.1
  unfold f_J28_getFirstEntry
  repeat' (first
      | exact SS.r_none
      | exact SS.oN (by assumption) (by first | rfl | assumption | exact hz.symm) (by first | assumption | exact Or.inl rfl)
      | exact SS.oI (by assumption)
      | exact SS.oV (by assumption)
      | exact SS.rt (by assumption)
      | exact s_rnn (by assumption) (by first | rfl | assumption | exact hz.symm) (by first | assumption | exact Or.inl rfl)
      | exact s_cmp1 (by assumption)
      | exact s_cmp2 (by assumption) (by first | rfl | assumption | exact hz.symm) (by first | assumption | exact Or.inl rfl) (by first | rfl | assumption | exact hz.symm) (by first | assumption | exact Or.inl rfl)
      | exact s_cmpTo (by assumption) (by first | rfl | assumption | exact hz.symm) (by first | assumption | exact Or.inl rfl) (by first | rfl | assumption | exact hz.symm) (by first | assumption | exact Or.inl rfl)
      | exact s_get_L28 _ (by assumption) (by first | rfl | assumption | exact hz.symm) (by first | assumption | exact Or.inl rfl) (by first | rfl | assumption | exact hz.symm) (by first | assumption | exact Or.inl rfl)
      | exact s_parentOf (by assumption) (by first | rfl | assumption | exact hz.symm) (by first | assumption | exact Or.inl rfl)
      | exact s_leftOf (by assumption) (by first | rfl | assumption | exact hz.symm) (by first | assumption | exact Or.inl rfl)
      | exact s_rightOf (by assumption) (by first | rfl | assumption | exact hz.symm) (by first | assumption | exact Or.inl rfl)
      | exact s_colorOf (by assumption) (by first | rfl | assumption | exact hz.symm) (by first | assumption | exact Or.inl rfl)
      | exact s_setColor (by assumption) (by first | rfl | assumption | exact hz.symm) (by first | assumption | exact Or.inl rfl)
      | exact s_rotL (by assumption) (by first | rfl | assumption | exact hz.symm) (by first | assumption | exact Or.inl rfl) (by first | rfl | assumption | exact hz.symm) (by first | assumption | exact Or.inl rfl)
      | exact s_rotR (by assumption) (by first | rfl | assumption | exact hz.symm) (by first | assumption | exact Or.inl rfl) (by first | rfl | assumption | exact hz.symm) (by first | assumption | exact Or.inl rfl)
      | exact s_fix_L5 _ (by assumption) (by first | rfl | assumption | exact hz.symm) (by first | assumption | exact Or.inl rfl) (by first | rfl | assumption | exact hz.symm) (by first | assumption | exact Or.inl rfl)
      | exact s_fix (by assumption) (by first | rfl | assumption | exact hz.symm) (by first | assumption | exact Or.inl rfl) (by first | rfl | assumption | exact hz.symm) (by first | assumption | exact Or.inl rfl)
      | exact s_compare (by assumption) (by first | rfl | assumption | exact hz.symm) (by first | assumption | exact Or.inl rfl) (by first | rfl | assumption | exact hz.symm) (by first | assumption | exact Or.inl rfl) (by first | rfl | assumption | exact hz.symm) (by first | assumption | exact Or.inl rfl)
      | exact s_einit (by assumption) (by first | rfl | assumption | exact hz.symm) (by first | assumption | exact Or.inl rfl) (by first | rfl | assumption | exact hz.symm) (by first | assumption | exact Or.inl rfl) (by first | rfl | assumption | exact hz.symm) (by first | assumption | exact Or.inl rfl) (by first | rfl | assumption | exact hz.symm) (by first | assumption | exact Or.inl rfl)
      | exact s_first_L9 _ (by assumption) (by first | rfl | assumption | exact hz.symm) (by first | assumption | exact Or.inl rfl)
      | refine SS.r_gR (by assumption) (by first | rfl | assumption | exact hz.symm) (by decide) (fun d => ?_)
      | refine SS.r_gI (by assumption) (by first | rfl | assumption | exact hz.symm) (by decide) ?_
      | refine SS.r_pR (by assumption) (by first | rfl | assumption | exact hz.symm) (by first | rfl | assumption | exact hz.symm) (by first | assumption | exact Or.inl rfl) (by decide) (fun d => ?_)
      | refine SS.r_pI (by assumption) (by first | rfl | assumption | exact hz.symm) (by decide) (fun d => ?_)
      | refine SS.r_gC (by assumption) (by first | rfl | assumption | exact hz.symm) (by decide) ?_
      | refine SS.r_bR (γ := γ) (φ := φ) (kd := kd) (s := s) (m := m) (P := P) (G0 := G0) ?_ (fun b C1 G1 h1 d1 => ?_)
      | refine SS.r_bI (γ := γ) (φ := φ) (kd := kd) (s := s) (m := m) (P := P) (G0 := G0) ?_ (fun b C1 G1 h1 => ?_)
      | refine SS.r_bV (γ := γ) (φ := φ) (kd := kd) (s := s) (m := m) (P := P) (G0 := G0) ?_ (fun C1 G1 h1 => ?_)
      | refine SS.iteK (by assumption) (by first | rfl | assumption | exact hz.symm) (by decide) (fun e => ?_)
      | refine SS.iteN (by assumption) (by first | assumption | exact Or.inl rfl) (by first | rfl | assumption | exact hz.symm) (fun e => ?_)
      | refine SS.iteA (by assumption) (by first | assumption | exact Or.inl rfl) (by first | assumption | exact Or.inl rfl) (by first | rfl | assumption | exact hz.symm) (by first | rfl | assumption | exact hz.symm) (fun e => ?_) (fun e => ?_)
      | refine SS.iteP (fun e => ?_) (fun e => ?_)
    )
theorem s_succ_L42 (n : Nat) : ∀ {C G : AH} {a0 b0 : Nat} {a1 b1 : Nat} (h : Rl γ φ kd s m P G0 C G) (e0 : b0 = φ a0) (d0 : Dm kd a0) (e1 : b1 = φ a1) (d1 : Dm kd a1), SS (ON γ φ kd s m P G0) (f_J28_successor_L42 cγ  n a0 a1 C) (f_J28_successor_L42 γ  n b0 b1 G) := by
  induction n with
  | zero => intros; exact SS.r_none
  | succ n ih =>
    intro C G a0 b0 a1 b1 h e0 d0 e1 d1
    have hz := h.2.1
    unfold f_J28_successor_L42
    repeat' (first
        | exact SS.r_none
        | exact SS.oN (by assumption) (by first | rfl | assumption | exact hz.symm) (by first | assumption | exact Or.inl rfl)
        | exact SS.oI (by assumption)
        | exact SS.oV (by assumption)
        | exact SS.rt (by assumption)
        | exact ih (by assumption) (by first | rfl | assumption | exact hz.symm) (by first | assumption | exact Or.inl rfl) (by first | rfl | assumption | exact hz.symm) (by first | assumption | exact Or.inl rfl)
        | exact s_rnn (by assumption) (by first | rfl | assumption | exact hz.symm) (by first | assumption | exact Or.inl rfl)
        | exact s_cmp1 (by assumption)
        | exact s_cmp2 (by assumption) (by first | rfl | assumption | exact hz.symm) (by first | assumption | exact Or.inl rfl) (by first | rfl | assumption | exact hz.symm) (by first | assumption | exact Or.inl rfl)
        | exact s_cmpTo (by assumption) (by first | rfl | assumption | exact hz.symm) (by first | assumption | exact Or.inl rfl) (by first | rfl | assumption | exact hz.symm) (by first | assumption | exact Or.inl rfl)
        | exact s_get_L28 _ (by assumption) (by first | rfl | assumption | exact hz.symm) (by first | assumption | exact Or.inl rfl) (by first | rfl | assumption | exact hz.symm) (by first | assumption | exact Or.inl rfl)
        | exact s_parentOf (by assumption) (by first | rfl | assumption | exact hz.symm) (by first | assumption | exact Or.inl rfl)
        | exact s_leftOf (by assumption) (by first | rfl | assumption | exact hz.symm) (by first | assumption | exact Or.inl rfl)
        | exact s_rightOf (by assumption) (by first | rfl | assumption | exact hz.symm) (by first | assumption | exact Or.inl rfl)
        | exact s_colorOf (by assumption) (by first | rfl | assumption | exact hz.symm) (by first | assumption | exact Or.inl rfl)
        | exact s_setColor (by assumption) (by first | rfl | assumption | exact hz.symm) (by first | assumption | exact Or.inl rfl)
        | exact s_rotL (by assumption) (by first | rfl | assumption | exact hz.symm) (by first | assumption | exact Or.inl rfl) (by first | rfl | assumption | exact hz.symm) (by first | assumption | exact Or.inl rfl)
        | exact s_rotR (by assumption) (by first | rfl | assumption | exact hz.symm) (by first | assumption | exact Or.inl rfl) (by first | rfl | assumption | exact hz.symm) (by first | assumption | exact Or.inl rfl)
        | exact s_fix_L5 _ (by assumption) (by first | rfl | assumption | exact hz.symm) (by first | assumption | exact Or.inl rfl) (by first | rfl | assumption | exact hz.symm) (by first | assumption | exact Or.inl rfl)
        | exact s_fix (by assumption) (by first | rfl | assumption | exact hz.symm) (by first | assumption | exact Or.inl rfl) (by first | rfl | assumption | exact hz.symm) (by first | assumption | exact Or.inl rfl)
        | exact s_compare (by assumption) (by first | rfl | assumption | exact hz.symm) (by first | assumption | exact Or.inl rfl) (by first | rfl | assumption | exact hz.symm) (by first | assumption | exact Or.inl rfl) (by first | rfl | assumption | exact hz.symm) (by first | assumption | exact Or.inl rfl)
        | exact s_einit (by assumption) (by first | rfl | assumption | exact hz.symm) (by first | assumption | exact Or.inl rfl) (by first | rfl | assumption | exact hz.symm) (by first | assumption | exact Or.inl rfl) (by first | rfl | assumption | exact hz.symm) (by first | assumption | exact Or.inl rfl) (by first | rfl | assumption | exact hz.symm) (by first | assumption | exact Or.inl rfl)
        | exact s_first_L9 _ (by assumption) (by first | rfl | assumption | exact hz.symm) (by first | assumption | exact Or.inl rfl)
        | exact s_first (by assumption) (by first | rfl | assumption | exact hz.symm) (by first | assumption | exact Or.inl rfl)
        | refine SS.r_gR (by assumption) (by first | rfl | assumption | exact hz.symm) (by decide) (fun d => ?_)
        | refine SS.r_gI (by assumption) (by first | rfl | assumption | exact hz.symm) (by decide) ?_
        | refine SS.r_pR (by assumption) (by first | rfl | assumption | exact hz.symm) (by first | rfl | assumption | exact hz.symm) (by first | assumption | exact Or.inl rfl) (by decide) (fun d => ?_)
        | refine SS.r_pI (by assumption) (by first | rfl | assumption | exact hz.symm) (by decide) (fun d => ?_)
        | refine SS.r_gC (by assumption) (by first | rfl | assumption | exact hz.symm) (by decide) ?_
        | refine SS.r_bR (γ := γ) (φ := φ) (kd := kd) (s := s) (m := m) (P := P) (G0 := G0) ?_ (fun b C1 G1 h1 d1 => ?_)
        | refine SS.r_bI (γ := γ) (φ := φ) (kd := kd) (s := s) (m := m) (P := P) (G0 := G0) ?_ (fun b C1 G1 h1 => ?_)
        | refine SS.r_bV (γ := γ) (φ := φ) (kd := kd) (s := s) (m := m) (P := P) (G0 := G0) ?_ (fun C1 G1 h1 => ?_)
        | refine SS.iteK (by assumption) (by first | rfl | assumption | exact hz.symm) (by decide) (fun e => ?_)
        | refine SS.iteN (by assumption) (by first | assumption | exact Or.inl rfl) (by first | rfl | assumption | exact hz.symm) (fun e => ?_)
        | refine SS.iteA (by assumption) (by first | assumption | exact Or.inl rfl) (by first | assumption | exact Or.inl rfl) (by first | rfl | assumption | exact hz.symm) (by first | rfl | assumption | exact hz.symm) (fun e => ?_) (fun e => ?_)
        | refine SS.iteP (fun e => ?_) (fun e => ?_)
      )
theorem s_succ_L18 (n : Nat) : ∀ {C G : AH} {a0 b0 : Nat} (h : Rl γ φ kd s m P G0 C G) (e0 : b0 = φ a0) (d0 : Dm kd a0), SS (ON γ φ kd s m P G0) (f_J28_successor_L18 cγ  n a0 C) (f_J28_successor_L18 γ  n b0 G) := by
  induction n with
  | zero => intros; exact SS.r_none
  | succ n ih =>
    intro C G a0 b0 h e0 d0
    have hz := h.2.1
    unfold f_J28_successor_L18
    repeat' (first
        | exact SS.r_none
        | exact SS.oN (by assumption) (by first | rfl | assumption | exact hz.symm) (by first | assumption | exact Or.inl rfl)
        | exact SS.oI (by assumption)
        | exact SS.oV (by assumption)
        | exact SS.rt (by assumption)
        | exact ih (by assumption) (by first | rfl | assumption | exact hz.symm) (by first | assumption | exact Or.inl rfl)
        | exact s_rnn (by assumption) (by first | rfl | assumption | exact hz.symm) (by first | assumption | exact Or.inl rfl)
        | exact s_cmp1 (by assumption)
        | exact s_cmp2 (by assumption) (by first | rfl | assumption | exact hz.symm) (by first | assumption | exact Or.inl rfl) (by first | rfl | assumption | exact hz.symm) (by first | assumption | exact Or.inl rfl)
        | exact s_cmpTo (by assumption) (by first | rfl | assumption | exact hz.symm) (by first | assumption | exact Or.inl rfl) (by first | rfl | assumption | exact hz.symm) (by first | assumption | exact Or.inl rfl)
        | exact s_get_L28 _ (by assumption) (by first | rfl | assumption | exact hz.symm) (by first | assumption | exact Or.inl rfl) (by first | rfl | assumption | exact hz.symm) (by first | assumption | exact Or.inl rfl)
        | exact s_parentOf (by assumption) (by first | rfl | assumption | exact hz.symm) (by first | assumption | exact Or.inl rfl)
        | exact s_leftOf (by assumption) (by first | rfl | assumption | exact hz.symm) (by first | assumption | exact Or.inl rfl)
        | exact s_rightOf (by assumption) (by first | rfl | assumption | exact hz.symm) (by first | assumption | exact Or.inl rfl)
        | exact s_colorOf (by assumption) (by first | rfl | assumption | exact hz.symm) (by first | assumption | exact Or.inl rfl)
        | exact s_setColor (by assumption) (by first | rfl | assumption | exact hz.symm) (by first | assumption | exact Or.inl rfl)
        | exact s_rotL (by assumption) (by first | rfl | assumption | exact hz.symm) (by first | assumption | exact Or.inl rfl) (by first | rfl | assumption | exact hz.symm) (by first | assumption | exact Or.inl rfl)
        | exact s_rotR (by assumption) (by first | rfl | assumption | exact hz.symm) (by first | assumption | exact Or.inl rfl) (by first | rfl | assumption | exact hz.symm) (by first | assumption | exact Or.inl rfl)
        | exact s_fix_L5 _ (by assumption) (by first | rfl | assumption | exact hz.symm) (by first | assumption | exact Or.inl rfl) (by first | rfl | assumption | exact hz.symm) (by first | assumption | exact Or.inl rfl)
        | exact s_fix (by assumption) (by first | rfl | assumption | exact hz.symm) (by first | assumption | exact Or.inl rfl) (by first | rfl | assumption | exact hz.symm) (by first | assumption | exact Or.inl rfl)
        | exact s_compare (by assumption) (by first | rfl | assumption | exact hz.symm) (by first | assumption | exact Or.inl rfl) (by first | rfl | assumption | exact hz.symm) (by first | assumption | exact Or.inl rfl) (by first | rfl | assumption | exact hz.symm) (by first | assumption | exact Or.inl rfl)
        | exact s_einit (by assumption) (by first | rfl | assumption | exact hz.symm) (by first | assumption | exact Or.inl rfl) (by first | rfl | assumption | exact hz.symm) (by first | assumption | exact Or.inl rfl) (by first | rfl | assumption | exact hz.symm) (by first | assumption | exact Or.inl rfl) (by first | rfl | assumption | exact hz.symm) (by first | assumption | exact Or.inl rfl)
        | exact s_first_L9 _ (by assumption) (by first | rfl | assumption | exact hz.symm) (by first | assumption | exact Or.inl rfl)
        | exact s_first (by assumption) (by first | rfl | assumption | exact hz.symm) (by first | assumption | exact Or.inl rfl)
        | exact s_succ_L42 _ (by assumption) (by first | rfl | assumption | exact hz.symm) (by first | assumption | exact Or.inl rfl) (by first | rfl | assumption | exact hz.symm) (by first | assumption | exact Or.inl rfl)
        | refine SS.r_gR (by assumption) (by first | rfl | assumption | exact hz.symm) (by decide) (fun d => ?_)
        | refine SS.r_gI (by assumption) (by first | rfl | assumption | exact hz.symm) (by decide) ?_
        | refine SS.r_pR (by assumption) (by first | rfl | assumption | exact hz.symm) (by first | rfl | assumption | exact hz.symm) (by first | assumption | exact Or.inl rfl) (by decide) (fun d => ?_)
        | refine SS.r_pI (by assumption) (by first | rfl | assumption | exact hz.symm) (by decide) (fun d => ?_)
        | refine SS.r_gC (by assumption) (by first | rfl | assumption | exact hz.symm) (by decide) ?_
        | refine SS.r_bR (γ := γ) (φ := φ) (kd := kd) (s := s) (m := m) (P := P) (G0 := G0) ?_ (fun b C1 G1 h1 d1 => ?_)
        | refine SS.r_bI (γ := γ) (φ := φ) (kd := kd) (s := s) (m := m) (P := P) (G0 := G0) ?_ (fun b C1 G1 h1 => ?_)
        | refine SS.r_bV (γ := γ) (φ := φ) (kd := kd) (s := s) (m := m) (P := P) (G0 := G0) ?_ (fun C1 G1 h1 => ?_)
        | refine SS.iteK (by assumption) (by first | rfl | assumption | exact hz.symm) (by decide) (fun e => ?_)
        | refine SS.iteN (by assumption) (by first | assumption | exact Or.inl rfl) (by first | rfl | assumption | exact hz.symm) (fun e => ?_)
        | refine SS.iteA (by assumption) (by first | assumption | exact Or.inl rfl) (by first | assumption | exact Or.inl rfl) (by first | rfl | assumption | exact hz.symm) (by first | rfl | assumption | exact hz.symm) (fun e => ?_) (fun e => ?_)
        | refine SS.iteP (fun e => ?_) (fun e => ?_)
      )
theorem s_succ {a0 b0 : Nat} (h : Rl γ φ kd s m P G0 C G) (e0 : b0 = φ a0) (d0 : Dm kd a0) : SS (ON γ φ kd s m P G0) (f_J28_successor cγ a0 C) (f_J28_successor γ b0 G) := by
  have hz := h.2.1
  unfold f_J28_successor
  repeat' (first
      | exact SS.r_none
      | exact SS.oN (by assumption) (by first | rfl | assumption | exact hz.symm) (by first | assumption | exact Or.inl rfl)
      | exact SS.oI (by assumption)
      | exact SS.oV (by assumption)
      | exact SS.rt (by assumption)
      | exact s_rnn (by assumption) (by first | rfl | assumption | exact hz.symm) (by first | assumption | exact Or.inl rfl)
      | exact s_cmp1 (by assumption)
      | exact s_cmp2 (by assumption) (by first | rfl | assumption | exact hz.symm) (by first | assumption | exact Or.inl rfl) (by first | rfl | assumption | exact hz.symm) (by first | assumption | exact Or.inl rfl)
      | exact s_cmpTo (by assumption) (by first | rfl | assumption | exact hz.symm) (by first | assumption | exact Or.inl rfl) (by first | rfl | assumption | exact hz.symm) (by first | assumption | exact Or.inl rfl)
      | exact s_get_L28 _ (by assumption) (by first | rfl | assumption | exact hz.symm) (by first | assumption | exact Or.inl rfl) (by first | rfl | assumption | exact hz.symm) (by first | assumption | exact Or.inl rfl)
      | exact s_parentOf (by assumption) (by first | rfl | assumption | exact hz.symm) (by first | assumption | exact Or.inl rfl)
      | exact s_leftOf (by assumption) (by first | rfl | assumption | exact hz.symm) (by first | assumption | exact Or.inl rfl)
      | exact s_rightOf (by assumption) (by first | rfl | assumption | exact hz.symm) (by first | assumption | exact Or.inl rfl)
      | exact s_colorOf (by assumption) (by first | rfl | assumption | exact hz.symm) (by first | assumption | exact Or.inl rfl)
      | exact s_setColor (by assumption) (by first | rfl | assumption | exact hz.symm) (by first | assumption | exact Or.inl rfl)
      | exact s_rotL (by assumption) (by first | rfl | assumption | exact hz.symm) (by first | assumption | exact Or.inl rfl) (by first | rfl | assumption | exact hz.symm) (by first | assumption | exact Or.inl rfl)
      | exact s_rotR (by assumption) (by first | rfl | assumption | exact hz.symm) (by first | assumption | exact Or.inl rfl) (by first | rfl | assumption | exact hz.symm) (by first | assumption | exact Or.inl rfl)
      | exact s_fix_L5 _ (by assumption) (by first | rfl | assumption | exact hz.symm) (by first | assumption | exact Or.inl rfl) (by first | rfl | assumption | exact hz.symm) (by first | assumption | exact Or.inl rfl)
      | exact s_fix (by assumption) (by first | rfl | assumption | exact hz.symm) (by first | assumption | exact Or.inl rfl) (by first | rfl | assumption | exact hz.symm) (by first | assumption | exact Or.inl rfl)
      | exact s_compare (by assumption) (by first | rfl | assumption | exact hz.symm) (by first | assumption | exact Or.inl rfl) (by first | rfl | assumption | exact hz.symm) (by first | assumption | exact Or.inl rfl) (by first | rfl | assumption | exact hz.symm) (by first | assumption | exact Or.inl rfl)
      | exact s_einit (by assumption) (by first | rfl | assumption | exact hz.symm) (by first | assumption | exact Or.inl rfl) (by first | rfl | assumption | exact hz.symm) (by first | assumption | exact Or.inl rfl) (by first | rfl | assumption | exact hz.symm) (by first | assumption | exact Or.inl rfl) (by first | rfl | assumption | exact hz.symm) (by first | assumption | exact Or.inl rfl)
      | exact s_first_L9 _ (by assumption) (by first | rfl | assumption | exact hz.symm) (by first | assumption | exact Or.inl rfl)
      | exact s_first (by assumption) (by first | rfl | assumption | exact hz.symm) (by first | assumption | exact Or.inl rfl)
      | exact s_succ_L42 _ (by assumption) (by first | rfl | assumption | exact hz.symm) (by first | assumption | exact Or.inl rfl) (by first | rfl | assumption | exact hz.symm) (by first | assumption | exact Or.inl rfl)
      | exact s_succ_L18 _ (by assumption) (by first | rfl | assumption | exact hz.symm) (by first | assumption | exact Or.inl rfl)
      | refine SS.r_gR (by assumption) (by first | rfl | assumption | exact hz.symm) (by decide) (fun d => ?_)
      | refine SS.r_gI (by assumption) (by first | rfl | assumption | exact hz.symm) (by decide) ?_
      | refine SS.r_pR (by assumption) (by first | rfl | assumption | exact hz.symm) (by first | rfl | assumption | exact hz.symm) (by first | assumption | exact Or.inl rfl) (by decide) (fun d => ?_)
      | refine SS.r_pI (by assumption) (by first | rfl | assumption | exact hz.symm) (by decide) (fun d => ?_)
      | refine SS.r_gC (by assumption) (by first | rfl | assumption | exact hz.symm) (by decide) ?_
      | refine SS.r_bR (γ := γ) (φ := φ) (kd := kd) (s := s) (m := m) (P := P) (G0 := G0) ?_ (fun b C1 G1 h1 d1 => ?_)
      | refine SS.r_bI (γ := γ) (φ := φ) (kd := kd) (s := s) (m := m) (P := P) (G0 := G0) ?_ (fun b C1 G1 h1 => ?_)
      | refine SS.r_bV (γ := γ) (φ := φ) (kd := kd) (s := s) (m := m) (P := P) (G0 := G0) ?_ (fun C1 G1 h1 => ?_)
      | refine SS.iteK (by assumption) (by first | rfl | assumption | exact hz.symm) (by decide) (fun e => ?_)
      | refine SS.iteN (by assumption) (by first | assumption | exact Or.inl rfl) (by first | rfl | assumption | exact hz.symm) (fun e => ?_)
      | refine SS.iteA (by assumption) (by first | assumption | exact Or.inl rfl) (by first | assumption | exact Or.inl rfl) (by first | rfl | assumption | exact hz.symm) (by first | rfl | assumption | exact hz.symm) (fun e => ?_) (fun e => ?_)
      | refine SS.iteP (fun e => ?_) (fun e => ?_)
    )
def r_addEntry (γ : GP) (x0 x1 x2 x3 : Nat) (x4 : Int32) (q1 : Nat) (g2 : AH) : Option (AH) := bV ((if q1 ≠ 0 then f_J39_init γ q1 x1 x2 x3 g2 else none)) fun g3 => jn (fun (g4 : AH) => bV ((if hK g4 x0 = 15 then f_J28_fixAfterInsertion γ x0 q1 g4 else none)) fun g6 => gI g6 x0 71 fun v7 => pI γ g6 x0 71 (v7 + (1 : Int32)) fun g8 => gI g8 x0 72 fun v9 => pI γ g8 x0 72 (v9 + (1 : Int32)) fun g10 => (some g10)) (fun (j5 : AH → Option (AH)) => (if x4 = 0 then pR γ g3 x3 100 q1 fun g11 => j5 g11 else pR γ g3 x3 99 q1 fun g12 => j5 g12))
def r_addEmpty (γ : GP) (x0 x1 x2 : Nat) (q3 : Nat) (g4 : AH) : Option (AH) := bV ((if q3 ≠ 0 then f_J39_init γ q3 x1 x2 0 g4 else none)) fun g5 => pR γ g5 x0 70 q3 fun g6 => pI γ g6 x0 71 (1 : Int32) fun g7 => gI g7 x0 72 fun v8 => pI γ g7 x0 72 (v8 + (1 : Int32)) fun g9 => (some g9)
theorem s_addEntry_r {a0 b0 : Nat} {a1 b1 : Nat} {a2 b2 : Nat} {a3 b3 : Nat} {v4 : Int32} {a5 b5 : Nat} (h : Rl γ φ kd s m P G0 C G) (e0 : b0 = φ a0) (d0 : Dm kd a0) (e1 : b1 = φ a1) (d1 : Dm kd a1) (e2 : b2 = φ a2) (d2 : Dm kd a2) (e3 : b3 = φ a3) (d3 : Dm kd a3) (e5 : b5 = φ a5) (d5 : Dm kd a5) : SS (OV γ φ kd s m P G0) (r_addEntry cγ a0 a1 a2 a3 v4 a5 C) (r_addEntry γ b0 b1 b2 b3 v4 b5 G) := by
  have hz := h.2.1
  unfold r_addEntry
  unfold jn
  repeat' (first
      | exact SS.r_none
      | exact SS.oN (by assumption) (by first | rfl | assumption | exact hz.symm) (by first | assumption | exact Or.inl rfl)
      | exact SS.oI (by assumption)
      | exact SS.oV (by assumption)
      | exact SS.rt (by assumption)
      | exact s_rnn (by assumption) (by first | rfl | assumption | exact hz.symm) (by first | assumption | exact Or.inl rfl)
      | exact s_cmp1 (by assumption)
      | exact s_cmp2 (by assumption) (by first | rfl | assumption | exact hz.symm) (by first | assumption | exact Or.inl rfl) (by first | rfl | assumption | exact hz.symm) (by first | assumption | exact Or.inl rfl)
      | exact s_cmpTo (by assumption) (by first | rfl | assumption | exact hz.symm) (by first | assumption | exact Or.inl rfl) (by first | rfl | assumption | exact hz.symm) (by first | assumption | exact Or.inl rfl)
      | exact s_get_L28 _ (by assumption) (by first | rfl | assumption | exact hz.symm) (by first | assumption | exact Or.inl rfl) (by first | rfl | assumption | exact hz.symm) (by first | assumption | exact Or.inl rfl)
      | exact s_parentOf (by assumption) (by first | rfl | assumption | exact hz.symm) (by first | assumption | exact Or.inl rfl)
      | exact s_leftOf (by assumption) (by first | rfl | assumption | exact hz.symm) (by first | assumption | exact Or.inl rfl)
      | exact s_rightOf (by assumption) (by first | rfl | assumption | exact hz.symm) (by first | assumption | exact Or.inl rfl)
      | exact s_colorOf (by assumption) (by first | rfl | assumption | exact hz.symm) (by first | assumption | exact Or.inl rfl)
      | exact s_setColor (by assumption) (by first | rfl | assumption | exact hz.symm) (by first | assumption | exact Or.inl rfl)
      | exact s_rotL (by assumption) (by first | rfl | assumption | exact hz.symm) (by first | assumption | exact Or.inl rfl) (by first | rfl | assumption | exact hz.symm) (by first | assumption | exact Or.inl rfl)
      | exact s_rotR (by assumption) (by first | rfl | assumption | exact hz.symm) (by first | assumption | exact Or.inl rfl) (by first | rfl | assumption | exact hz.symm) (by first | assumption | exact Or.inl rfl)
      | exact s_fix_L5 _ (by assumption) (by first | rfl | assumption | exact hz.symm) (by first | assumption | exact Or.inl rfl) (by first | rfl | assumption | exact hz.symm) (by first | assumption | exact Or.inl rfl)
      | exact s_fix (by assumption) (by first | rfl | assumption | exact hz.symm) (by first | assumption | exact Or.inl rfl) (by first | rfl | assumption | exact hz.symm) (by first | assumption | exact Or.inl rfl)
      | exact s_compare (by assumption) (by first | rfl | assumption | exact hz.symm) (by first | assumption | exact Or.inl rfl) (by first | rfl | assumption | exact hz.symm) (by first | assumption | exact Or.inl rfl) (by first | rfl | assumption | exact hz.symm) (by first | assumption | exact Or.inl rfl)
      | exact s_einit (by assumption) (by first | rfl | assumption | exact hz.symm) (by first | assumption | exact Or.inl rfl) (by first | rfl | assumption | exact hz.symm) (by first | assumption | exact Or.inl rfl) (by first | rfl | assumption | exact hz.symm) (by first | assumption | exact Or.inl rfl) (by first | rfl | assumption | exact hz.symm) (by first | assumption | exact Or.inl rfl)
      | exact s_first_L9 _ (by assumption) (by first | rfl | assumption | exact hz.symm) (by first | assumption | exact Or.inl rfl)
      | exact s_first (by assumption) (by first | rfl | assumption | exact hz.symm) (by first | assumption | exact Or.inl rfl)
      | exact s_succ_L42 _ (by assumption) (by first | rfl | assumption | exact hz.symm) (by first | assumption | exact Or.inl rfl) (by first | rfl | assumption | exact hz.symm) (by first | assumption | exact Or.inl rfl)
      | exact s_succ_L18 _ (by assumption) (by first | rfl | assumption | exact hz.symm) (by first | assumption | exact Or.inl rfl)
      | exact s_succ (by assumption) (by first | rfl | assumption | exact hz.symm) (by first | assumption | exact Or.inl rfl)
      | refine SS.r_gR (by assumption) (by first | rfl | assumption | exact hz.symm) (by decide) (fun d => ?_)
      | refine SS.r_gI (by assumption) (by first | rfl | assumption | exact hz.symm) (by decide) ?_
      | refine SS.r_pR (by assumption) (by first | rfl | assumption | exact hz.symm) (by first | rfl | assumption | exact hz.symm) (by first | assumption | exact Or.inl rfl) (by decide) (fun d => ?_)
      | refine SS.r_pI (by assumption) (by first | rfl | assumption | exact hz.symm) (by decide) (fun d => ?_)
      | refine SS.r_gC (by assumption) (by first | rfl | assumption | exact hz.symm) (by decide) ?_
      | refine SS.r_bR (γ := γ) (φ := φ) (kd := kd) (s := s) (m := m) (P := P) (G0 := G0) ?_ (fun b C1 G1 h1 d1 => ?_)
      | refine SS.r_bI (γ := γ) (φ := φ) (kd := kd) (s := s) (m := m) (P := P) (G0 := G0) ?_ (fun b C1 G1 h1 => ?_)
      | refine SS.r_bV (γ := γ) (φ := φ) (kd := kd) (s := s) (m := m) (P := P) (G0 := G0) ?_ (fun C1 G1 h1 => ?_)
      | refine SS.iteK (by assumption) (by first | rfl | assumption | exact hz.symm) (by decide) (fun e => ?_)
      | refine SS.iteN (by assumption) (by first | assumption | exact Or.inl rfl) (by first | rfl | assumption | exact hz.symm) (fun e => ?_)
      | refine SS.iteA (by assumption) (by first | assumption | exact Or.inl rfl) (by first | assumption | exact Or.inl rfl) (by first | rfl | assumption | exact hz.symm) (by first | rfl | assumption | exact hz.symm) (fun e => ?_) (fun e => ?_)
      | refine SS.iteP (fun e => ?_) (fun e => ?_)
    )
theorem s_addEmpty_r {a0 b0 : Nat} {a1 b1 : Nat} {a2 b2 : Nat} {a3 b3 : Nat} (h : Rl γ φ kd s m P G0 C G) (e0 : b0 = φ a0) (d0 : Dm kd a0) (e1 : b1 = φ a1) (d1 : Dm kd a1) (e2 : b2 = φ a2) (d2 : Dm kd a2) (e3 : b3 = φ a3) (d3 : Dm kd a3) : SS (OV γ φ kd s m P G0) (r_addEmpty cγ a0 a1 a2 a3 C) (r_addEmpty γ b0 b1 b2 b3 G) := by
  have hz := h.2.1
  unfold r_addEmpty
  repeat' (first
      | exact SS.r_none
      | exact SS.oN (by assumption) (by first | rfl | assumption | exact hz.symm) (by first | assumption | exact Or.inl rfl)
      | exact SS.oI (by assumption)
      | exact SS.oV (by assumption)
      | exact SS.rt (by assumption)
      | exact s_rnn (by assumption) (by first | rfl | assumption | exact hz.symm) (by first | assumption | exact Or.inl rfl)
      | exact s_cmp1 (by assumption)
      | exact s_cmp2 (by assumption) (by first | rfl | assumption | exact hz.symm) (by first | assumption | exact Or.inl rfl) (by first | rfl | assumption | exact hz.symm) (by first | assumption | exact Or.inl rfl)
      | exact s_cmpTo (by assumption) (by first | rfl | assumption | exact hz.symm) (by first | assumption | exact Or.inl rfl) (by first | rfl | assumption | exact hz.symm) (by first | assumption | exact Or.inl rfl)
      | exact s_get_L28 _ (by assumption) (by first | rfl | assumption | exact hz.symm) (by first | assumption | exact Or.inl rfl) (by first | rfl | assumption | exact hz.symm) (by first | assumption | exact Or.inl rfl)
      | exact s_parentOf (by assumption) (by first | rfl | assumption | exact hz.symm) (by first | assumption | exact Or.inl rfl)
      | exact s_leftOf (by assumption) (by first | rfl | assumption | exact hz.symm) (by first | assumption | exact Or.inl rfl)
      | exact s_rightOf (by assumption) (by first | rfl | assumption | exact hz.symm) (by first | assumption | exact Or.inl rfl)
      | exact s_colorOf (by assumption) (by first | rfl | assumption | exact hz.symm) (by first | assumption | exact Or.inl rfl)
      | exact s_setColor (by assumption) (by first | rfl | assumption | exact hz.symm) (by first | assumption | exact Or.inl rfl)
      | exact s_rotL (by assumption) (by first | rfl | assumption | exact hz.symm) (by first | assumption | exact Or.inl rfl) (by first | rfl | assumption | exact hz.symm) (by first | assumption | exact Or.inl rfl)
      | exact s_rotR (by assumption) (by first | rfl | assumption | exact hz.symm) (by first | assumption | exact Or.inl rfl) (by first | rfl | assumption | exact hz.symm) (by first | assumption | exact Or.inl rfl)
      | exact s_fix_L5 _ (by assumption) (by first | rfl | assumption | exact hz.symm) (by first | assumption | exact Or.inl rfl) (by first | rfl | assumption | exact hz.symm) (by first | assumption | exact Or.inl rfl)
      | exact s_fix (by assumption) (by first | rfl | assumption | exact hz.symm) (by first | assumption | exact Or.inl rfl) (by first | rfl | assumption | exact hz.symm) (by first | assumption | exact Or.inl rfl)
      | exact s_compare (by assumption) (by first | rfl | assumption | exact hz.symm) (by first | assumption | exact Or.inl rfl) (by first | rfl | assumption | exact hz.symm) (by first | assumption | exact Or.inl rfl) (by first | rfl | assumption | exact hz.symm) (by first | assumption | exact Or.inl rfl)
      | exact s_einit (by assumption) (by first | rfl | assumption | exact hz.symm) (by first | assumption | exact Or.inl rfl) (by first | rfl | assumption | exact hz.symm) (by first | assumption | exact Or.inl rfl) (by first | rfl | assumption | exact hz.symm) (by first | assumption | exact Or.inl rfl) (by first | rfl | assumption | exact hz.symm) (by first | assumption | exact Or.inl rfl)
      | exact s_first_L9 _ (by assumption) (by first | rfl | assumption | exact hz.symm) (by first | assumption | exact Or.inl rfl)
      | exact s_first (by assumption) (by first | rfl | assumption | exact hz.symm) (by first | assumption | exact Or.inl rfl)
      | exact s_succ_L42 _ (by assumption) (by first | rfl | assumption | exact hz.symm) (by first | assumption | exact Or.inl rfl) (by first | rfl | assumption | exact hz.symm) (by first | assumption | exact Or.inl rfl)
      | exact s_succ_L18 _ (by assumption) (by first | rfl | assumption | exact hz.symm) (by first | assumption | exact Or.inl rfl)
      | exact s_succ (by assumption) (by first | rfl | assumption | exact hz.symm) (by first | assumption | exact Or.inl rfl)
      | exact s_addEntry_r (by assumption) (by first | rfl | assumption | exact hz.symm) (by first | assumption | exact Or.inl rfl) (by first | rfl | assumption | exact hz.symm) (by first | assumption | exact Or.inl rfl) (by first | rfl | assumption | exact hz.symm) (by first | assumption | exact Or.inl rfl) (by first | rfl | assumption | exact hz.symm) (by first | assumption | exact Or.inl rfl) (by first | rfl | assumption | exact hz.symm) (by first | assumption | exact Or.inl rfl)
      | refine SS.r_gR (by assumption) (by first | rfl | assumption | exact hz.symm) (by decide) (fun d => ?_)
      | refine SS.r_gI (by assumption) (by first | rfl | assumption | exact hz.symm) (by decide) ?_
      | refine SS.r_pR (by assumption) (by first | rfl | assumption | exact hz.symm) (by first | rfl | assumption | exact hz.symm) (by first | assumption | exact Or.inl rfl) (by decide) (fun d => ?_)
      | refine SS.r_pI (by assumption) (by first | rfl | assumption | exact hz.symm) (by decide) (fun d => ?_)
      | refine SS.r_gC (by assumption) (by first | rfl | assumption | exact hz.symm) (by decide) ?_
      | refine SS.r_bR (γ := γ) (φ := φ) (kd := kd) (s := s) (m := m) (P := P) (G0 := G0) ?_ (fun b C1 G1 h1 d1 => ?_)
      | refine SS.r_bI (γ := γ) (φ := φ) (kd := kd) (s := s) (m := m) (P := P) (G0 := G0) ?_ (fun b C1 G1 h1 => ?_)
      | refine SS.r_bV (γ := γ) (φ := φ) (kd := kd) (s := s) (m := m) (P := P) (G0 := G0) ?_ (fun C1 G1 h1 => ?_)
      | refine SS.iteK (by assumption) (by first | rfl | assumption | exact hz.symm) (by decide) (fun e => ?_)
      | refine SS.iteN (by assumption) (by first | assumption | exact Or.inl rfl) (by first | rfl | assumption | exact hz.symm) (fun e => ?_)
      | refine SS.iteA (by assumption) (by first | assumption | exact Or.inl rfl) (by first | assumption | exact Or.inl rfl) (by first | rfl | assumption | exact hz.symm) (by first | rfl | assumption | exact hz.symm) (fun e => ?_) (fun e => ?_)
      | refine SS.iteP (fun e => ?_) (fun e => ?_)
    )
theorem s_addEntry {a0 b0 : Nat} {a1 b1 : Nat} {a2 b2 : Nat} {a3 b3 : Nat} {v4 : Int32} (h : Rl γ φ kd s m P G0 C G) (hb : γ.2 < s.1) (e0 : b0 = φ a0) (d0 : Dm kd a0) (e1 : b1 = φ a1) (d1 : Dm kd a1) (e2 : b2 = φ a2) (d2 : Dm kd a2) (e3 : b3 = φ a3) (d3 : Dm kd a3) : SS (OV γ (u1 φ s.2 s.1) (u1 kd s.2 23) (s.1 + 1, s.2 + 1) (m + cInst 23) (fun b => P b ∨ b = s.1) G0) (f_J28_addEntry cγ a0 a1 a2 a3 v4 C) (f_J28_addEntry γ b0 b1 b2 b3 v4 G) := by
  have p0 := h.up d0
  have p1 := h.up d1
  have p2 := h.up d2
  have p3 := h.up d3
  have w := h.ext hb
  have eq : s.1 = u1 φ s.2 s.1 s.2 := (if_pos rfl).symm
  have dq : Dm (u1 kd s.2 23) s.2 := Or.inr (by rw [show u1 kd s.2 23 s.2 = 23 from if_pos rfl]; decide)
  have k := s_addEntry_r (v4 := v4) w (e0.trans p0.2) p0.1 (e1.trans p1.2) p1.1 (e2.trans p2.2) p2.1 (e3.trans p3.2) p3.1 eq dq
  show SS _ (r_addEntry cγ a0 a1 a2 a3 v4 (hS C) (nO C 23 (cInst 23))) (r_addEntry γ b0 b1 b2 b3 v4 (hS G) (nO G 23 (cInst 23)))
  rw [h.2.2.2.2.2.2.2.2.2.1, h.2.2.2.2.2.2.2.2.2.2.2.1]; exact k
theorem s_addEmpty {a0 b0 : Nat} {a1 b1 : Nat} {a2 b2 : Nat} (h : Rl γ φ kd s m P G0 C G) (hb : γ.2 < s.1) (e0 : b0 = φ a0) (d0 : Dm kd a0) (e1 : b1 = φ a1) (d1 : Dm kd a1) (e2 : b2 = φ a2) (d2 : Dm kd a2) : SS (OV γ (u1 φ s.2 s.1) (u1 kd s.2 23) (s.1 + 1, s.2 + 1) (m + cInst 23) (fun b => P b ∨ b = s.1) G0) (f_J28_addEntryToEmptyMap cγ a0 a1 a2 C) (f_J28_addEntryToEmptyMap γ b0 b1 b2 G) := by
  refine SS.r_bI (γ := γ) (φ := φ) (kd := kd) (s := s) (m := m) (P := P) (G0 := G0) (SS.iteK h e0 (by decide) (fun _ => s_compare h e0 d0 e1 d1 e1 d1)) (fun b C1 G1 h1 => ?_)
  have p0 := h1.up d0
  have p1 := h1.up d1
  have p2 := h1.up d2
  have w := h1.ext hb
  have eq : s.1 = u1 φ s.2 s.1 s.2 := (if_pos rfl).symm
  have dq : Dm (u1 kd s.2 23) s.2 := Or.inr (by rw [show u1 kd s.2 23 s.2 = 23 from if_pos rfl]; decide)
  have k := s_addEmpty_r w (e0.trans p0.2) p0.1 (e1.trans p1.2) p1.1 (e2.trans p2.2) p2.1 eq dq
  show SS _ (r_addEmpty cγ a0 a1 a2 (hS C1) (nO C1 23 (cInst 23))) (r_addEmpty γ b0 b1 b2 (hS G1) (nO G1 23 (cInst 23)))
  rw [h1.2.2.2.2.2.2.2.2.2.1, h1.2.2.2.2.2.2.2.2.2.2.2.1]; exact k
theorem s_getEntry {a0 b0 : Nat} {a1 b1 : Nat} (h : Rl γ φ kd s m P G0 C G) (e0 : b0 = φ a0) (d0 : Dm kd a0) (e1 : b1 = φ a1) (d1 : Dm kd a1) : SS (ON γ φ kd s m P G0) (f_J28_getEntry cγ a0 a1 C) (f_J28_getEntry γ b0 b1 G) := by
  have hz := h.2.1
  unfold f_J28_getEntry
  repeat' (first
      | exact SS.r_none
      | exact SS.oN (by assumption) (by first | rfl | assumption | exact hz.symm) (by first | assumption | exact Or.inl rfl)
      | exact SS.oI (by assumption)
      | exact SS.oV (by assumption)
      | exact SS.rt (by assumption)
      | exact s_rnn (by assumption) (by first | rfl | assumption | exact hz.symm) (by first | assumption | exact Or.inl rfl)
      | exact s_cmp1 (by assumption)
      | exact s_cmp2 (by assumption) (by first | rfl | assumption | exact hz.symm) (by first | assumption | exact Or.inl rfl) (by first | rfl | assumption | exact hz.symm) (by first | assumption | exact Or.inl rfl)
      | exact s_cmpTo (by assumption) (by first | rfl | assumption | exact hz.symm) (by first | assumption | exact Or.inl rfl) (by first | rfl | assumption | exact hz.symm) (by first | assumption | exact Or.inl rfl)
      | exact s_get_L28 _ (by assumption) (by first | rfl | assumption | exact hz.symm) (by first | assumption | exact Or.inl rfl) (by first | rfl | assumption | exact hz.symm) (by first | assumption | exact Or.inl rfl)
      | exact s_parentOf (by assumption) (by first | rfl | assumption | exact hz.symm) (by first | assumption | exact Or.inl rfl)
      | exact s_leftOf (by assumption) (by first | rfl | assumption | exact hz.symm) (by first | assumption | exact Or.inl rfl)
      | exact s_rightOf (by assumption) (by first | rfl | assumption | exact hz.symm) (by first | assumption | exact Or.inl rfl)
      | exact s_colorOf (by assumption) (by first | rfl | assumption | exact hz.symm) (by first | assumption | exact Or.inl rfl)
      | exact s_setColor (by assumption) (by first | rfl | assumption | exact hz.symm) (by first | assumption | exact Or.inl rfl)
      | exact s_rotL (by assumption) (by first | rfl | assumption | exact hz.symm) (by first | assumption | exact Or.inl rfl) (by first | rfl | assumption | exact hz.symm) (by first | assumption | exact Or.inl rfl)
      | exact s_rotR (by assumption) (by first | rfl | assumption | exact hz.symm) (by first | assumption | exact Or.inl rfl) (by first | rfl | assumption | exact hz.symm) (by first | assumption | exact Or.inl rfl)
      | exact s_fix_L5 _ (by assumption) (by first | rfl | assumption | exact hz.symm) (by first | assumption | exact Or.inl rfl) (by first | rfl | assumption | exact hz.symm) (by first | assumption | exact Or.inl rfl)
      | exact s_fix (by assumption) (by first | rfl | assumption | exact hz.symm) (by first | assumption | exact Or.inl rfl) (by first | rfl | assumption | exact hz.symm) (by first | assumption | exact Or.inl rfl)
      | exact s_compare (by assumption) (by first | rfl | assumption | exact hz.symm) (by first | assumption | exact Or.inl rfl) (by first | rfl | assumption | exact hz.symm) (by first | assumption | exact Or.inl rfl) (by first | rfl | assumption | exact hz.symm) (by first | assumption | exact Or.inl rfl)
      | exact s_einit (by assumption) (by first | rfl | assumption | exact hz.symm) (by first | assumption | exact Or.inl rfl) (by first | rfl | assumption | exact hz.symm) (by first | assumption | exact Or.inl rfl) (by first | rfl | assumption | exact hz.symm) (by first | assumption | exact Or.inl rfl) (by first | rfl | assumption | exact hz.symm) (by first | assumption | exact Or.inl rfl)
      | exact s_first_L9 _ (by assumption) (by first | rfl | assumption | exact hz.symm) (by first | assumption | exact Or.inl rfl)
      | exact s_first (by assumption) (by first | rfl | assumption | exact hz.symm) (by first | assumption | exact Or.inl rfl)
      | exact s_succ_L42 _ (by assumption) (by first | rfl | assumption | exact hz.symm) (by first | assumption | exact Or.inl rfl) (by first | rfl | assumption | exact hz.symm) (by first | assumption | exact Or.inl rfl)
      | exact s_succ_L18 _ (by assumption) (by first | rfl | assumption | exact hz.symm) (by first | assumption | exact Or.inl rfl)
      | exact s_succ (by assumption) (by first | rfl | assumption | exact hz.symm) (by first | assumption | exact Or.inl rfl)
      | exact s_addEntry_r (by assumption) (by first | rfl | assumption | exact hz.symm) (by first | assumption | exact Or.inl rfl) (by first | rfl | assumption | exact hz.symm) (by first | assumption | exact Or.inl rfl) (by first | rfl | assumption | exact hz.symm) (by first | assumption | exact Or.inl rfl) (by first | rfl | assumption | exact hz.symm) (by first | assumption | exact Or.inl rfl) (by first | rfl | assumption | exact hz.symm) (by first | assumption | exact Or.inl rfl)
      | exact s_addEmpty_r (by assumption) (by first | rfl | assumption | exact hz.symm) (by first | assumption | exact Or.inl rfl) (by first | rfl | assumption | exact hz.symm) (by first | assumption | exact Or.inl rfl) (by first | rfl | assumption | exact hz.symm) (by first | assumption | exact Or.inl rfl) (by first | rfl | assumption | exact hz.symm) (by first | assumption | exact Or.inl rfl)
      | refine SS.r_gR (by assumption) (by first | rfl | assumption | exact hz.symm) (by decide) (fun d => ?_)
      | refine SS.r_gI (by assumption) (by first | rfl | assumption | exact hz.symm) (by decide) ?_
      | refine SS.r_pR (by assumption) (by first | rfl | assumption | exact hz.symm) (by first | rfl | assumption | exact hz.symm) (by first | assumption | exact Or.inl rfl) (by decide) (fun d => ?_)
      | refine SS.r_pI (by assumption) (by first | rfl | assumption | exact hz.symm) (by decide) (fun d => ?_)
      | refine SS.r_gC (by assumption) (by first | rfl | assumption | exact hz.symm) (by decide) ?_
      | refine SS.r_bR (γ := γ) (φ := φ) (kd := kd) (s := s) (m := m) (P := P) (G0 := G0) ?_ (fun b C1 G1 h1 d1 => ?_)
      | refine SS.r_bI (γ := γ) (φ := φ) (kd := kd) (s := s) (m := m) (P := P) (G0 := G0) ?_ (fun b C1 G1 h1 => ?_)
      | refine SS.r_bV (γ := γ) (φ := φ) (kd := kd) (s := s) (m := m) (P := P) (G0 := G0) ?_ (fun C1 G1 h1 => ?_)
      | refine SS.iteK (by assumption) (by first | rfl | assumption | exact hz.symm) (by decide) (fun e => ?_)
      | refine SS.iteN (by assumption) (by first | assumption | exact Or.inl rfl) (by first | rfl | assumption | exact hz.symm) (fun e => ?_)
      | refine SS.iteA (by assumption) (by first | assumption | exact Or.inl rfl) (by first | assumption | exact Or.inl rfl) (by first | rfl | assumption | exact hz.symm) (by first | rfl | assumption | exact hz.symm) (fun e => ?_) (fun e => ?_)
      | refine SS.iteP (fun e => ?_) (fun e => ?_)
    )
set_option maxHeartbeats 4000000 in
theorem s_L123 {O : Nat × AH → Nat × AH → Prop} {x0 x1 x2 x8 y0 y1 y2 y8 : Nat} {x3 : Int32} {K1 K1b : Nat → AH → Option (Nat × AH)} {K2 K2b : Int32 → Nat → AH → Option (Nat × AH)} (e8 : y8 = φ x8) (d8 : Dm kd x8) (k1 : ∀ (y z : Nat) (C G : AH), Rl γ φ kd s m P G0 C G → z = φ y → Dm kd y → SS O (K1 y C) (K1b z G)) (k2 : ∀ v : Int32, ∀ (y z : Nat) (C G : AH), Rl γ φ kd s m P G0 C G → z = φ y → Dm kd y → SS O (K2 v y C) (K2b v z G)) (n : Nat) : ∀ {C G : AH} {a b : Nat} (h : Rl γ φ kd s m P G0 C G) (e : b = φ a) (d : Dm kd a), SS O (f_J28_put_2_L123 cγ x0 x1 x2 x3 x8 K1 K2 n a C) (f_J28_put_2_L123 γ y0 y1 y2 x3 y8 K1b K2b n b G) := by
  induction n with
  | zero => intros; exact SS.r_none
  | succ n ih =>
    intro C G a b h e d
    have hz := h.2.1
    unfold f_J28_put_2_L123
    unfold jn
    repeat' (first
        | exact SS.r_none
        | exact SS.oN (by assumption) (by first | rfl | assumption | exact hz.symm) (by first | assumption | exact Or.inl rfl)
        | exact SS.oI (by assumption)
        | exact SS.oV (by assumption)
        | exact SS.rt (by assumption)
        | exact ih (by assumption) (by first | rfl | assumption | exact hz.symm) (by first | assumption | exact Or.inl rfl)
        | exact k1 _ _ _ _ (by assumption) (by first | rfl | assumption | exact hz.symm) (by first | assumption | exact Or.inl rfl)
        | exact k2 _ _ _ _ _ (by assumption) (by first | rfl | assumption | exact hz.symm) (by first | assumption | exact Or.inl rfl)
        | exact s_rnn (by assumption) (by first | rfl | assumption | exact hz.symm) (by first | assumption | exact Or.inl rfl)
        | exact s_cmp1 (by assumption)
        | exact s_cmp2 (by assumption) (by first | rfl | assumption | exact hz.symm) (by first | assumption | exact Or.inl rfl) (by first | rfl | assumption | exact hz.symm) (by first | assumption | exact Or.inl rfl)
        | exact s_cmpTo (by assumption) (by first | rfl | assumption | exact hz.symm) (by first | assumption | exact Or.inl rfl) (by first | rfl | assumption | exact hz.symm) (by first | assumption | exact Or.inl rfl)
        | exact s_get_L28 _ (by assumption) (by first | rfl | assumption | exact hz.symm) (by first | assumption | exact Or.inl rfl) (by first | rfl | assumption | exact hz.symm) (by first | assumption | exact Or.inl rfl)
        | exact s_parentOf (by assumption) (by first | rfl | assumption | exact hz.symm) (by first | assumption | exact Or.inl rfl)
        | exact s_leftOf (by assumption) (by first | rfl | assumption | exact hz.symm) (by first | assumption | exact Or.inl rfl)
        | exact s_rightOf (by assumption) (by first | rfl | assumption | exact hz.symm) (by first | assumption | exact Or.inl rfl)
        | exact s_colorOf (by assumption) (by first | rfl | assumption | exact hz.symm) (by first | assumption | exact Or.inl rfl)
        | exact s_setColor (by assumption) (by first | rfl | assumption | exact hz.symm) (by first | assumption | exact Or.inl rfl)
        | exact s_rotL (by assumption) (by first | rfl | assumption | exact hz.symm) (by first | assumption | exact Or.inl rfl) (by first | rfl | assumption | exact hz.symm) (by first | assumption | exact Or.inl rfl)
        | exact s_rotR (by assumption) (by first | rfl | assumption | exact hz.symm) (by first | assumption | exact Or.inl rfl) (by first | rfl | assumption | exact hz.symm) (by first | assumption | exact Or.inl rfl)
        | exact s_fix_L5 _ (by assumption) (by first | rfl | assumption | exact hz.symm) (by first | assumption | exact Or.inl rfl) (by first | rfl | assumption | exact hz.symm) (by first | assumption | exact Or.inl rfl)
        | exact s_fix (by assumption) (by first | rfl | assumption | exact hz.symm) (by first | assumption | exact Or.inl rfl) (by first | rfl | assumption | exact hz.symm) (by first | assumption | exact Or.inl rfl)
        | exact s_compare (by assumption) (by first | rfl | assumption | exact hz.symm) (by first | assumption | exact Or.inl rfl) (by first | rfl | assumption | exact hz.symm) (by first | assumption | exact Or.inl rfl) (by first | rfl | assumption | exact hz.symm) (by first | assumption | exact Or.inl rfl)
        | exact s_einit (by assumption) (by first | rfl | assumption | exact hz.symm) (by first | assumption | exact Or.inl rfl) (by first | rfl | assumption | exact hz.symm) (by first | assumption | exact Or.inl rfl) (by first | rfl | assumption | exact hz.symm) (by first | assumption | exact Or.inl rfl) (by first | rfl | assumption | exact hz.symm) (by first | assumption | exact Or.inl rfl)
        | exact s_first_L9 _ (by assumption) (by first | rfl | assumption | exact hz.symm) (by first | assumption | exact Or.inl rfl)
        | exact s_first (by assumption) (by first | rfl | assumption | exact hz.symm) (by first | assumption | exact Or.inl rfl)
        | exact s_succ_L42 _ (by assumption) (by first | rfl | assumption | exact hz.symm) (by first | assumption | exact Or.inl rfl) (by first | rfl | assumption | exact hz.symm) (by first | assumption | exact Or.inl rfl)
        | exact s_succ_L18 _ (by assumption) (by first | rfl | assumption | exact hz.symm) (by first | assumption | exact Or.inl rfl)
        | exact s_succ (by assumption) (by first | rfl | assumption | exact hz.symm) (by first | assumption | exact Or.inl rfl)
        | exact s_addEntry_r (by assumption) (by first | rfl | assumption | exact hz.symm) (by first | assumption | exact Or.inl rfl) (by first | rfl | assumption | exact hz.symm) (by first | assumption | exact Or.inl rfl) (by first | rfl | assumption | exact hz.symm) (by first | assumption | exact Or.inl rfl) (by first | rfl | assumption | exact hz.symm) (by first | assumption | exact Or.inl rfl) (by first | rfl | assumption | exact hz.symm) (by first | assumption | exact Or.inl rfl)
        | exact s_addEmpty_r (by assumption) (by first | rfl | assumption | exact hz.symm) (by first | assumption | exact Or.inl rfl) (by first | rfl | assumption | exact hz.symm) (by first | assumption | exact Or.inl rfl) (by first | rfl | assumption | exact hz.symm) (by first | assumption | exact Or.inl rfl) (by first | rfl | assumption | exact hz.symm) (by first | assumption | exact Or.inl rfl)
        | exact s_getEntry (by assumption) (by first | rfl | assumption | exact hz.symm) (by first | assumption | exact Or.inl rfl) (by first | rfl | assumption | exact hz.symm) (by first | assumption | exact Or.inl rfl)
        | refine SS.r_gR (by assumption) (by first | rfl | assumption | exact hz.symm) (by decide) (fun d => ?_)
        | refine SS.r_gI (by assumption) (by first | rfl | assumption | exact hz.symm) (by decide) ?_
        | refine SS.r_pR (by assumption) (by first | rfl | assumption | exact hz.symm) (by first | rfl | assumption | exact hz.symm) (by first | assumption | exact Or.inl rfl) (by decide) (fun d => ?_)
        | refine SS.r_pI (by assumption) (by first | rfl | assumption | exact hz.symm) (by decide) (fun d => ?_)
        | refine SS.r_gC (by assumption) (by first | rfl | assumption | exact hz.symm) (by decide) ?_
        | refine SS.r_bR (γ := γ) (φ := φ) (kd := kd) (s := s) (m := m) (P := P) (G0 := G0) ?_ (fun b C1 G1 h1 d1 => ?_)
        | refine SS.r_bI (γ := γ) (φ := φ) (kd := kd) (s := s) (m := m) (P := P) (G0 := G0) ?_ (fun b C1 G1 h1 => ?_)
        | refine SS.r_bV (γ := γ) (φ := φ) (kd := kd) (s := s) (m := m) (P := P) (G0 := G0) ?_ (fun C1 G1 h1 => ?_)
        | refine SS.iteK (by assumption) (by first | rfl | assumption | exact hz.symm) (by decide) (fun e => ?_)
        | refine SS.iteN (by assumption) (by first | assumption | exact Or.inl rfl) (by first | rfl | assumption | exact hz.symm) (fun e => ?_)
        | refine SS.iteA (by assumption) (by first | assumption | exact Or.inl rfl) (by first | assumption | exact Or.inl rfl) (by first | rfl | assumption | exact hz.symm) (by first | rfl | assumption | exact hz.symm) (fun e => ?_) (fun e => ?_)
        | refine SS.iteP (fun e => ?_) (fun e => ?_)
      )
def OP (γ : GP) (φ kd : Nat → Nat) (s : Nat × Nat) (m : Nat) (P : Nat → Prop) (G0 : AH) : Nat × AH → Nat × AH → Prop := fun r r1 => Rl γ (u1 φ s.2 s.1) (u1 kd s.2 23) (s.1 + 1, s.2 + 1) (m + cInst 23) (fun b => P b ∨ b = s.1) G0 r.2 r1.2 ∨ hS r.2 = s.2
theorem s_put {x k v y k1 v1 : Nat} (h : Rl γ φ kd s m P G0 C G) (hb : γ.2 < s.1) (e0 : y = φ x) (d0 : Dm kd x) (e1 : k1 = φ k) (d1 : Dm kd k) (e2 : v1 = φ v) (d2 : Dm kd v) : SS (OP γ φ kd s m P G0) (f_J28_put cγ x k v C) (f_J28_put γ y k1 v1 G) := by
  have hz := h.2.1
  have fin : ∀ {X Y : Option (Nat × AH)}, SS (OP γ φ kd s m P G0) X Y → SS (OP γ φ kd s m P G0) (bR X fun v2 g1 => some (v2, g1)) (bR Y fun v2 g1 => some (v2, g1)) := by
    intro X Y hX r e
    cases X with
    | none => cases e
    | some q =>
      obtain ⟨q1, eq, o⟩ := hX q rfl
      cases e
      exact ⟨q1, by rw [eq]; rfl, o⟩
  have fv : ∀ {X Y : Option AH}, SS (OV γ (u1 φ s.2 s.1) (u1 kd s.2 23) (s.1 + 1, s.2 + 1) (m + cInst 23) (fun b => P b ∨ b = s.1) G0) X Y → SS (OP γ φ kd s m P G0) (bV X fun g1 => some (0, g1)) (bV Y fun g1 => some (0, g1)) := by
    intro X Y hX r e
    cases X with
    | none => cases e
    | some q =>
      obtain ⟨q1, eq, o⟩ := hX q rfl
      cases e
      exact ⟨(0, q1), by rw [eq]; rfl, Or.inl o⟩
  unfold f_J28_put
  refine fin (SS.iteK h e0 (by decide) (fun _ => ?_))
  unfold f_J28_put_2
  refine SS.r_gR h e0 (by decide) (fun d => SS.iteA h d (Or.inl rfl) rfl hz.symm (fun _ => ?_) (fun _ => ?_))
  · exact fv (SS.iteK h e0 (by decide) (fun _ => s_addEmpty h hb e0 d0 e1 d1 e2 d2))
  · refine SS.r_gR h e0 (by decide) (fun d3 => SS.iteA h d3 (Or.inl rfl) rfl hz.symm (fun _ => ?_) (fun _ => ?_))
    · refine SS.r_bR (γ := γ) (φ := φ) (kd := kd) (s := s) (m := m) (P := P) (G0 := G0) (s_rnn h e1 d1) (fun b C1 G1 h1 _ => SS.r_gC h1 e1 (by decide) (s_L123 e1 d1 ?_ ?_ FU h1 rfl d))
      · intro y0 z0 C2 G2 h2 ey dy
        have hs : ∀ {r1 : Nat × AH} {f a v : Nat}, ∀ q : Nat, OP γ φ kd s m P G0 (q, sR C2 f a v) r1 := fun q => Or.inr h2.2.2.2.2.2.2.2.2.2.2.2.1
        refine SS.r_gR h2 ey (by decide) (fun d5 => SS.iteP (fun _ => SS.iteA h2 d5 (Or.inl rfl) rfl hz.symm (fun _ => ?_) (fun _ => ?_)) (fun _ => ?_))
        · exact SS.r_pR h2 ey e2 d2 (by decide) (fun _ => SS.r_some (hs _))
        · exact SS.r_some (Or.inr h2.2.2.2.2.2.2.2.2.2.2.2.1)
        · exact SS.r_pR h2 ey e2 d2 (by decide) (fun _ => SS.r_some (hs _))
      · intro v y0 z0 C2 G2 h2 ey dy
        unfold jn
        refine SS.iteP (fun _ => ?_) (fun _ => ?_)
        · exact fv (SS.iteK h2 e0 (by decide) (fun _ => s_addEntry h2 hb e0 d0 e1 d1 e2 d2 ey dy))
        · exact fv (SS.iteK h2 e0 (by decide) (fun _ => s_addEntry h2 hb e0 d0 e1 d1 e2 d2 ey dy))
    · exact SS.r_gR h rfl (by decide) (fun _ => SS.r_none)
end TFUN
