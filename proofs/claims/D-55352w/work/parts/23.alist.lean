/-! ArrayList -/
theorem bI_some {β : Type} {v : Int32} {G : AH} {K : Int32 → AH → Option β} : bI (some (v, G)) K = K v G := rfl
theorem bR_some {β : Type} {v : Nat} {G : AH} {K : Nat → AH → Option β} : bR (some (v, G)) K = K v G := rfl
theorem bV_some {β : Type} {G : AH} {K : AH → Option β} : bV (some G) K = K G := rfl
theorem i_shr1 {n : Nat} (h : n < 2147483648) : Int32.ofNat n >>> ((1 : Int32) &&& 31) = Int32.ofNat (n / 2) := by
  apply Int32.toInt_inj.mp
  rw [i_toInt (by omega)]
  show ((Int32.ofNat n >>> ((1 : Int32) &&& 31)).toBitVec).toInt = _
  rw [Int32.toBitVec_shiftRight]
  rw [show ((((1 : Int32) &&& 31).toBitVec).smod 32) = (1#32) by decide]
  rw [BitVec.sshiftRight_eq', BitVec.toInt_sshiftRight]
  show (Int32.ofNat n).toInt >>> 1 = _
  rw [i_toInt h, Int.shiftRight_eq_div_pow]
  omega
theorem p_max (γ : GP) (a b : Int32) (g : AH) : f_J16_max γ a b g = some ((if a < b then b else a), g) := by
  unfold f_J16_max
  split <;> rfl
theorem p_min (γ : GP) (a b : Int32) (g : AH) : f_J16_min γ a b g = some ((if b < a then b else a), g) := by
  unfold f_J16_min
  split <;> rfl
theorem i_max {a b : Nat} (ha : a < 2147483648) (hb : b < 2147483648) : (if Int32.ofNat a < Int32.ofNat b then Int32.ofNat b else Int32.ofNat a) = Int32.ofNat (max a b) := by
  by_cases h : a < b
  · rw [if_pos ((i_lt ha hb).mpr h), Nat.max_eq_right (Nat.le_of_lt h)]
  · rw [if_neg (fun k => h ((i_lt ha hb).mp k)), Nat.max_eq_left (Nat.le_of_not_lt h)]
theorem i_min {a b : Nat} (ha : a < 2147483648) (hb : b < 2147483648) : (if Int32.ofNat b < Int32.ofNat a then Int32.ofNat b else Int32.ofNat a) = Int32.ofNat (min a b) := by
  by_cases h : b < a
  · rw [if_pos ((i_lt hb ha).mpr h), Nat.min_eq_right (Nat.le_of_lt h)]
  · rw [if_neg (fun k => h ((i_lt hb ha).mp k)), Nat.min_eq_left (Nat.le_of_not_lt h)]
theorem p_newLen {γ : GP} {c m p : Nat} {g : AH} (hc : c < 500000000) (hm : m < 500000000) (hp : p < 500000000) (h0 : 0 < c + max m p) : f_J15_newLength γ (Int32.ofNat c) (Int32.ofNat m) (Int32.ofNat p) g = some (Int32.ofNat (c + max m p), g) := by
  unfold f_J15_newLength
  rw [p_max, i_max (by omega) (by omega), bI_some]
  unfold jn
  dsimp only
  rw [i_add, show (0 : Int32) = Int32.ofNat 0 from rfl, show (2147483639 : Int32) = Int32.ofNat 2147483639 from rfl]
  rw [if_neg (by rw [i_le (by omega) (by omega)]; omega), if_neg (by rw [i_lt (by omega) (by omega)]; omega)]
theorem Wf.lt_of {G : AH} (h : Wf G) {a : Nat} (hk : hK G a ∈ stO) : 0 < a ∧ a < hS G := h.2 a (fun e => by rw [e] at hk; exact absurd hk (by decide))
theorem Wf.ne_of {G : AH} (h : Wf G) {a : Nat} (hk : hK G a ∈ stO) : a ≠ hS G := Nat.ne_of_lt (h.lt_of hk).2
/-- copyOf of an array of objects -/
theorem p_copyOf {γ : GP} {G : AH} {q n : Nat} (hw : Wf G) (hq : hK G q = 106) (hn : n ≤ 60000000) (hl : hL G q ≤ 60000000) (he : ∀ i, i < min (hL G q) n → hQ G q i = 0 ∨ hK G (hQ G q i) ∈ stO) (hb : γ.2 < hS G) :
    wp (f_J17_copyOf_2 γ q (Int32.ofNat n) G) (fun r => r.1 = hS G ∧ hS r.2 = hS G + 1 ∧ hM r.2 = hM G + n ∧ Fr (fun _ => False) G r.2 ∧ Wf r.2 ∧ hK r.2 r.1 = 106 ∧ hL r.2 r.1 = n ∧ ∀ i, i < min (hL G q) n → hQ r.2 r.1 i = hQ G q i) := by
  have hqS := hw.2 q (by omega)
  have hne : q ≠ hS G := by omega
  unfold f_J17_copyOf_2
  refine wp_ifc hq (wp_bR ?_)
  unfold f_J17_copyOf_3
  refine wp_ifc rfl (wp_mA ⟨i_neg (by omega), by rw [i_nat (by omega)]; exact hn⟩ ?_)
  rw [i_nat (by omega)]
  refine wp_gL (by rw [hK_nA, if_neg hne, hq]; decide) (wp_bI ?_)
  rw [hL_nA, if_neg hne, p_min, i_min (by omega) (by omega)]
  refine wp_some ?_
  have hK1 : hK (nA G 106 n) (hS G) = 106 := by rw [hK_nA, if_pos rfl]
  have hL1 : hL (nA G 106 n) (hS G) = n := by rw [hL_nA, if_pos rfl]
  have hKq : hK (nA G 106 n) q = 106 := by rw [hK_nA, if_neg hne]; exact hq
  have hLq : hL (nA G 106 n) q = hL G q := by rw [hL_nA, if_neg hne]
  have hm : (Int32.ofNat (min (hL G q) n)).toNatClampNeg = min (hL G q) n := i_nat (by omega)
  have h0 : (0 : Int32).toNatClampNeg = 0 := rfl
  show wp (nCQ γ (nA G 106 n) q (0 : Int32) (hS G) (0 : Int32) (Int32.ofNat (min (hL G q) n)) fun g6 => some (hS G, g6)) _
  unfold nCQ
  refine wp_ifc ⟨⟨hKq, hK1, hb, by decide, by decide, i_neg (by omega), by rw [hm, hLq, h0]; omega, by rw [hm, hL1, h0]; omega⟩, fun i hi => ?_⟩ (wp_some (wp_some ⟨rfl, rfl, rfl, ?_, ?_, hK1, hL1, fun i hi => ?_⟩))
  · rw [hm] at hi
    rw [h0, Nat.zero_add, hQ_nA, if_neg hne]
    rcases he i hi with h | h
    · exact Or.inl h
    · refine Or.inr ?_
      rw [hK_nA, if_neg (hw.ne_of h)]
      exact h
  · exact ((Fr.refl _ G).nA).sQr (Or.inr (Nat.le_refl _))
  · exact (hw.nA).sQr
  · show hQ (sQr (nA G 106 n) (hS G) _) (hS G) i = _
    rw [hQ_sQr, if_pos rfl, hm, h0]
    show va_cpy _ _ 0 0 (min (hL G q) n) i = _
    unfold va_cpy
    rw [if_pos (by omega), hQ_nA, if_neg hne]
    congr 1
    omega
/-- the list L lies in the ArrayList at x -/
def AL (γ : GP) (G : AH) (x : Nat) (L : List Nat) : Prop :=
  hK G x = 3 ∧ γ.2 < x ∧ hI G 16 x = Int32.ofNat L.length ∧ hK G (hR G 15 x) = 106 ∧ L.length ≤ hL G (hR G 15 x) ∧ hL G (hR G 15 x) ≤ 2 * L.length + 10 ∧
  (∀ i (h : i < L.length), hQ G (hR G 15 x) i = L[i]) ∧ (∀ v ∈ L, hK G v ∈ stO) ∧ ((hR G 15 x = γ.1 0 ∧ hL G (hR G 15 x) = 0) ∨ (γ.2 < hR G 15 x ∧ 0 < hL G (hR G 15 x)))
/-- what belongs to it -/
def ALp (γ : GP) (G : AH) (x : Nat) : Nat → Prop := fun a => a = x ∨ (a = hR G 15 x ∧ γ.2 < a)
theorem AL.size {γ : GP} {G : AH} {x : Nat} {L : List Nat} (h : AL γ G x L) : f_J2_size γ x G = some (Int32.ofNat L.length, G) := by
  unfold f_J2_size gI
  rw [if_pos (show 16 ∈ cFl (hK G x) by rw [h.1]; decide), h.2.2.1]
theorem AL.get {γ : GP} {G : AH} {x : Nat} {L : List Nat} (h : AL γ G x L) (hL9 : L.length < 60000000) {i : Nat} (hi : i < L.length) : f_J2_get γ x (Int32.ofNat i) G = some (L[i], G) := by
  obtain ⟨h1, h2, h3, h4, h5, h6, h7, h8, h9⟩ := h
  unfold f_J2_get gI
  rw [if_pos (show 16 ∈ cFl (hK G x) by rw [h1]; decide), h3]
  unfold f_J25_checkIndex f_J18_checkIndex
  dsimp only
  rw [if_neg (i_neg (by omega)), if_pos ((i_lt (by omega) (by omega)).mpr hi)]
  simp only [bI_some]
  rw [if_pos h1]
  unfold f_J2_elementData gR
  rw [if_pos (show 15 ∈ cFl (hK G x) by rw [h1]; decide)]
  unfold gQ
  dsimp only
  rw [if_pos ⟨h4, by rw [i_nat (by omega)]; intro hh; rcases hh with hh | hh; exact i_neg (by omega) hh; omega⟩, i_nat (by omega), h7 i hi]
  rfl
/-- room for one more -/
theorem AL.grow {γ : GP} {G : AH} {x : Nat} {L : List Nat} (hw : Wf G) (hb : γ.2 < hS G) (h : AL γ G x L) (hL9 : L.length < 10000000) (hf : L.length = hL G (hR G 15 x)) :
    wp (f_J2_grow_2 γ x G) (fun r => AL γ r.2 x L ∧ r.1 = hR r.2 15 x ∧ r.1 = hS G ∧ L.length < hL r.2 (hR r.2 15 x) ∧ hL r.2 (hR r.2 15 x) ≤ 2 * L.length + 10 ∧ Fr (ALp γ G x) G r.2 ∧ Wf r.2 ∧ hS r.2 ≤ hS G + 1 ∧ hM r.2 ≤ hM G + (2 * L.length + 10) ∧ hM r.2 + 4 * hL G (hR G 15 x) ≤ hM G + 4 * hL r.2 (hR r.2 15 x)) := by
  obtain ⟨h1, h2, h3, h4, h5, h6, h7, h8, h9⟩ := h
  have hx := hw.2 x (by omega)
  have hxne : x ≠ hS G := by omega
  have hq := hw.2 (hR G 15 x) (by omega)
  unfold f_J2_grow_2
  refine wp_gI (show 16 ∈ cFl (hK G x) by rw [h1]; decide) (wp_bR (wp_ifc h1 ?_))
  rw [h3, show (1 : Int32) = Int32.ofNat 1 from rfl, i_add]
  unfold f_J2_grow
  refine wp_gR (show 15 ∈ cFl (hK G x) by rw [h1]; decide) (wp_gL (by rw [h4]; decide) (wp_jn ?_))
  rw [← hf]
  refine wp_ite (fun hp => ?_) (fun hp => ?_)
  · have hp2 : 0 < L.length := (i_lt (a := 0) (by omega) (by omega)).mp hp
    dsimp only
    rw [i_sub (by omega), i_shr1 (by omega), show L.length + 1 - L.length = 1 by omega, p_newLen (by omega) (by omega) (by omega) (by omega), bI_some]
    refine wp_gR (show 15 ∈ cFl (hK G x) by rw [h1]; decide) (wp_bR ?_)
    refine wp_mono (p_copyOf hw h4 (n := L.length + max 1 (L.length / 2)) (by omega) (by omega) (fun i hi => ?_) hb) (fun r hr => ?_)
    · have hi2 : i < L.length := by omega
      rw [h7 i hi2]
      exact Or.inr (h8 _ (List.getElem_mem hi2))
    · obtain ⟨r1, r2, r3, r4, r5, r6, r7, r8⟩ := hr
      have hKx : hK r.2 x = 3 := by rw [(r4.2.2.1 x hx.2).1]; exact h1
      refine wp_pR ⟨by rw [hKx]; decide, by rw [hKx]; decide, h2⟩ (wp_some (wp_some ?_))
      have e15 : hR (sR r.2 15 x r.1) 15 x = r.1 := by rw [hR_sR, if_pos ⟨rfl, rfl⟩]
      refine ⟨⟨hKx, h2, ?_, ?_, ?_, ?_, ?_, ?_, ?_⟩, e15.symm, r1, ?_, ?_, ?_, r5.sR, ?_, ?_, ?_⟩
      · show hI r.2 16 x = _
        rw [(r4.2.2.2 x hx.2 (fun h => h)).1]; exact h3
      · rw [e15]; exact r6
      · rw [e15]
        show L.length ≤ hL r.2 r.1
        omega
      · rw [e15]
        show hL r.2 r.1 ≤ _
        omega
      · intro i hi
        rw [e15]
        show hQ r.2 r.1 i = _
        rw [r8 i (by omega)]
        exact h7 i hi
      · intro v hv
        show hK r.2 v ∈ stO
        rw [(r4.2.2.1 v (hw.lt_of (h8 v hv)).2).1]
        exact h8 v hv
      · refine Or.inr ?_
        rw [e15]
        show _ ∧ 0 < hL r.2 r.1
        omega
      · rw [e15]
        show _ < hL r.2 r.1
        omega
      · rw [e15]
        show hL r.2 r.1 ≤ _
        omega
      · exact (r4.mono (fun _ _ h => h.elim)).sR (Or.inl (Or.inl rfl))
      · show hS r.2 ≤ _
        omega
      · show hM r.2 ≤ _
        omega
      · rw [e15]
        show hM r.2 + 4 * L.length ≤ hM G + 4 * hL r.2 r.1
        omega
  · have hp2 : L.length = 0 := by
      rcases Nat.eq_zero_or_pos L.length with h | h
      · exact h
      · exact absurd ((i_lt (a := 0) (by omega) (by omega)).mpr h) hp
    have hqe : hR G 15 x = γ.1 0 := by
      rcases h9 with h | h
      · exact h.1
      · omega
    refine wp_gR (show 15 ∈ cFl (hK G x) by rw [h1]; decide) ?_
    rw [if_pos hqe]
    rw [hp2, show (10 : Int32) = Int32.ofNat 10 from rfl, p_max, i_max (by omega) (by omega), bI_some]
    refine wp_mA ⟨i_neg (by omega), by rw [i_nat (by omega)]; decide⟩ ?_
    rw [i_nat (by omega)]
    have hKx : hK (nA G 106 10) x = 3 := by rw [hK_nA, if_neg hxne]; exact h1
    refine wp_pR ⟨by show 15 ∈ cFl (hK (nA G 106 10) x); rw [hKx]; decide, by show hK (nA G 106 10) x < 37; rw [hKx]; decide, h2⟩ (wp_some (wp_some ?_))
    have hLn : L = [] := List.length_eq_zero_iff.mp hp2
    subst hLn
    have e15 : hR (sR (nA G 106 10) 15 x (hS G)) 15 x = hS G := by rw [hR_sR, if_pos ⟨rfl, rfl⟩]
    have eL : hL (sR (nA G 106 10) 15 x (hS G)) (hS G) = 10 := by show hL (nA G 106 10) (hS G) = 10; rw [hL_nA, if_pos rfl]
    refine ⟨⟨hKx, h2, h3, ?_, ?_, ?_, ?_, ?_, ?_⟩, e15.symm, rfl, ?_, ?_, ?_, (hw.nA).sR, Nat.le_refl _, Nat.le_refl _, ?_⟩
    · show hK (sR (nA G 106 10) 15 x (hS G)) (hR (sR (nA G 106 10) 15 x (hS G)) 15 x) = 106
      rw [e15]
      show hK (nA G 106 10) (hS G) = 106
      rw [hK_nA, if_pos rfl]
    · exact Nat.zero_le _
    · show hL (sR (nA G 106 10) 15 x (hS G)) (hR (sR (nA G 106 10) 15 x (hS G)) 15 x) ≤ _
      rw [e15, eL]; decide
    · intro i hi; exact absurd hi (Nat.not_lt_zero _)
    · intro v hv; cases hv
    · refine Or.inr ?_
      show _ < hR (sR (nA G 106 10) 15 x (hS G)) 15 x ∧ 0 < hL (sR (nA G 106 10) 15 x (hS G)) (hR (sR (nA G 106 10) 15 x (hS G)) 15 x)
      rw [e15, eL]
      exact ⟨hb, by decide⟩
    · show 0 < hL (sR (nA G 106 10) 15 x (hS G)) (hR (sR (nA G 106 10) 15 x (hS G)) 15 x)
      rw [e15, eL]; decide
    · show hL (sR (nA G 106 10) 15 x (hS G)) (hR (sR (nA G 106 10) 15 x (hS G)) 15 x) ≤ _
      rw [e15, eL]; decide
    · exact ((Fr.refl _ G).nA).sR (Or.inl (Or.inl rfl))
    · show hM G + 10 + 4 * 0 ≤ hM G + 4 * hL (sR (nA G 106 10) 15 x (hS G)) (hR (sR (nA G 106 10) 15 x (hS G)) 15 x)
      rw [e15, eL]
      omega
theorem AL.push {γ : GP} {G : AH} {x v : Nat} {L : List Nat} (hw : Wf G) (hb : γ.2 < hS G) (h : AL γ G x L) (hv : hK G v ∈ stO) (hL9 : L.length < 10000000) :
    wp (f_J2_add γ x v G) (fun r => r.1 = 1 ∧ AL γ r.2 x (L ++ [v]) ∧ (hR r.2 15 x = hR G 15 x ∨ hR r.2 15 x = hS G) ∧ Fr (ALp γ G x) G r.2 ∧ Wf r.2 ∧ hS r.2 ≤ hS G + 1 ∧ hM r.2 ≤ hM G + (2 * L.length + 10) ∧ hM r.2 + 4 * hL G (hR G 15 x) ≤ hM G + 4 * hL r.2 (hR r.2 15 x)) := by
  have hx := hw.2 x (by rw [h.1]; decide)
  unfold f_J2_add
  refine wp_gI (show 14 ∈ cFl (hK G x) by rw [h.1]; decide) (wp_pI ⟨⟨by rw [h.1]; decide, by rw [h.1]; decide, h.2.1⟩, rfl, rfl⟩ ?_)
  generalize hG1 : sI G 14 x (hI G 14 x + 1) = G1
  have hA1 : AL γ G1 x L := by
    rw [← hG1]
    obtain ⟨h1, h2, h3, h4⟩ := h
    exact ⟨h1, h2, by rw [hI_sI, if_neg (fun h => absurd h.1 (by decide))]; exact h3, h4⟩
  have hw1 : Wf G1 := by rw [← hG1]; exact hw.sI
  have hF1 : Fr (ALp γ G x) G G1 := by rw [← hG1]; exact (Fr.refl _ G).sI (Or.inl (Or.inl rfl))
  have hS1 : hS G1 = hS G := by rw [← hG1]; rfl
  have hM1 : hM G1 = hM G := by rw [← hG1]; rfl
  have hR1 : hR G1 = hR G := by rw [← hG1]; rfl
  have hK1 : hK G1 = hK G := by rw [← hG1]; rfl
  have hL1 : hL G1 = hL G := by rw [← hG1]; rfl
  have hv1 : hK G1 v ∈ stO := by rw [hK1]; exact hv
  have hb1 : γ.2 < hS G1 := by rw [hS1]; exact hb
  clear hG1
  refine wp_gR (show 15 ∈ cFl (hK G1 x) by rw [hA1.1]; decide) (wp_gI (show 16 ∈ cFl (hK G1 x) by rw [hA1.1]; decide) (wp_bV (wp_ifc hA1.1 ?_)))
  rw [hA1.2.2.1]
  have hl5 := hA1.2.2.2.2.1
  have hl6 := hA1.2.2.2.2.2.1
  unfold f_J2_add_2
  -- behind the growth: there is room
  have fin : ∀ G2 : AH, AL γ G2 x L → Wf G2 → hK G2 v ∈ stO → Fr (ALp γ G x) G G2 → (hR G2 15 x = hR G 15 x ∨ hR G2 15 x = hS G) → L.length < hL G2 (hR G2 15 x) → hS G2 ≤ hS G + 1 → hM G2 ≤ hM G + (2 * L.length + 10) → hM G2 + 4 * hL G (hR G 15 x) ≤ hM G + 4 * hL G2 (hR G2 15 x) →
      wp (pQ γ G2 (hR G2 15 x) (Int32.ofNat L.length) v fun g5 => pI γ g5 x 16 (Int32.ofNat L.length + 1) fun g6 => some g6) (fun r => wp (rtN .boolean (1 : Int32) r) (fun r => r.1 = 1 ∧ AL γ r.2 x (L ++ [v]) ∧ (hR r.2 15 x = hR G 15 x ∨ hR r.2 15 x = hS G) ∧ Fr (ALp γ G x) G r.2 ∧ Wf r.2 ∧ hS r.2 ≤ hS G + 1 ∧ hM r.2 ≤ hM G + (2 * L.length + 10) ∧ hM r.2 + 4 * hL G (hR G 15 x) ≤ hM G + 4 * hL r.2 (hR r.2 15 x))) := by
    intro G2 hA hw2 hv2 hF hq hroom hs hm hm4
    obtain ⟨h1, h2, h3, h4, h5, h6, h7, h8, h9⟩ := hA
    have hi : (Int32.ofNat L.length).toNatClampNeg = L.length := i_nat (by omega)
    have hwr : γ.2 < hR G2 15 x := by
      rcases h9 with h | h
      · omega
      · exact h.1
    refine wp_pQ ⟨⟨⟨h4, by rw [hi]; intro hh; rcases hh with hh | hh; exact i_neg (by omega) hh; omega⟩, hwr⟩, hv2⟩ ?_
    refine wp_pI ⟨⟨by show 16 ∈ cFl (hK G2 x); rw [h1]; decide, by show hK G2 x < 37; rw [h1]; decide, h2⟩, rfl, rfl⟩ (wp_some ?_)
    rw [hi, show (1 : Int32) = Int32.ofNat 1 from rfl, i_add]
    refine ⟨(1, _), rfl, rfl, ⟨h1, h2, ?_, h4, ?_, ?_, ?_, ?_, ?_⟩, hq, ?_, (hw2.sQ).sI, hs, hm, hm4⟩
    · rw [hI_sI, if_pos ⟨rfl, rfl⟩, List.length_append]; rfl
    · rw [List.length_append]; exact hroom
    · rw [List.length_append]
      show hL G2 (hR G2 15 x) ≤ _
      omega
    · intro i hi2
      show hQ (sQ G2 (hR G2 15 x) L.length v) (hR G2 15 x) i = _
      rw [hQ_sQ]
      rw [List.length_append] at hi2
      have hi3 : i < L.length + 1 := hi2
      by_cases e : i = L.length
      · subst e
        rw [if_pos ⟨rfl, rfl⟩, List.getElem_append_right (Nat.le_refl _)]
        simp
      · rw [if_neg (fun h => e h.2), List.getElem_append_left (by omega)]
        exact h7 i (by omega)
    · intro u hu
      rcases List.mem_append.mp hu with hu | hu
      · exact h8 u hu
      · rw [List.mem_singleton.mp hu]; exact hv2
    · rcases h9 with h | h
      · exact Or.inl h
      · exact Or.inr h
    · refine (hF.sQ ?_).sI (Or.inl (Or.inl rfl))
      rcases hq with h | h
      · exact Or.inl (Or.inr ⟨h, hwr⟩)
      · exact Or.inr (Nat.le_of_eq h.symm)
  refine wp_gL (by rw [hA1.2.2.2.1]; decide) (wp_jn (wp_ite (fun he => ?_) (fun he => ?_)))
  · have he2 := (i_eq (by omega) (by omega)).mp he
    refine wp_bR (wp_ifc hA1.1 (wp_mono (hA1.grow hw1 hb1 hL9 he2) (fun r hr => ?_)))
    obtain ⟨r1, r2, r3, r4, r5, r6, r7, r8, r9⟩ := hr
    rw [r2]
    refine fin r.2 r1 r7 (by rw [(r6.2.2.1 v (hw1.lt_of hv1).2).1]; exact hv1) (hF1.trans r6 (fun a ha => Or.inl ?_)) (Or.inr ?_) r4 ?_ ?_ ?_
    · rcases ha with h | h
      · exact Or.inl h
      · rw [hR1] at h; exact Or.inr h
    · rw [← r2, r3, hS1]
    · omega
    · omega
    · have q := r9.2
      rw [hR1, hM1, hL1] at q
      exact q
  · have he2 : L.length ≠ hL G1 (hR G1 15 x) := fun h => he (by rw [h])
    exact fin G1 hA1 hw1 hv1 hF1 (Or.inl (by rw [hR1])) (by omega) (by omega) (by omega) (by rw [hM1, hR1, hL1]; exact Nat.le_refl _)
