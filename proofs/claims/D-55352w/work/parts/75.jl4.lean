section JL4
variable {γ : GP} {G : AH} {x y : Nat} {L : List Nat}
/-- addAll onto a new list -/
theorem AL.addAll0 (hw : Wf G) (hb : γ.2 < hS G) (h : AL γ G x []) (h0 : hR G 15 x = γ.1 0) (hl0 : hL G (γ.1 0) = 0) (hy : AL γ G y L) (hL9 : L.length < 1000000) :
    wp (f_J2_addAll γ x y G) (fun r => AL γ r.2 x L ∧ (hR r.2 15 x = γ.1 0 ∨ hS G ≤ hR r.2 15 x) ∧ Fr (fun a => a = x) G r.2 ∧ Wf r.2 ∧ hS r.2 ≤ hS G + 2 ∧ hM r.2 ≤ hM G + (2 * L.length + 10)) := by
  have lx := hw.k h.1 (by decide)
  have x2 := h.2.1
  unfold f_J2_addAll
  rw [if_pos hy.1]
  refine wp_bR (wp_mono (AL.toArray hw hb hy (by omega)) (fun r hr => ?_))
  obtain ⟨r1, r2, r3, r4, r5, r6, r7, r8⟩ := hr
  have k1 := AL.keep hw r5 h (fun q => q) (fun _ q => q)
  have kx := k1.1.1
  have lx1 : x < hS r.2 := by omega
  refine wp_gI (okf kx (by decide)) (wp_pI ⟨okw kx (by decide) x2, rfl, rfl⟩ ?_)
  have f1 : Fr (fun a => a = x) G (sI r.2 14 x (hI r.2 14 x + 1)) := (r5.mono (fun _ _ q => q.elim)).sI (Or.inl rfl)
  have w1 : Wf (sI r.2 14 x (hI r.2 14 x + 1)) := r6.sI
  have e16 : hI (sI r.2 14 x (hI r.2 14 x + 1)) 16 x = 0 := by
    rw [hI_sI, if_neg (fun e => absurd e.1 (by decide))]
    exact k1.1.2.2.1
  have e15 : hR (sI r.2 14 x (hI r.2 14 x + 1)) 15 x = γ.1 0 := by
    show hR r.2 15 x = _
    rw [k1.2, h0]
  have kx2 : hK (sI r.2 14 x (hI r.2 14 x + 1)) x = 3 := kx
  have q2 : hK (sI r.2 14 x (hI r.2 14 x + 1)) r.1 = 106 := r2
  have q3 : hL (sI r.2 14 x (hI r.2 14 x + 1)) r.1 = L.length := r3
  have q4 : ∀ i, i < L.length → hQ (sI r.2 14 x (hI r.2 14 x + 1)) r.1 i = nd L i := r4
  have s1 : hS (sI r.2 14 x (hI r.2 14 x + 1)) = hS G + 1 := r7
  have m1 : hM (sI r.2 14 x (hI r.2 14 x + 1)) = hM G + L.length := r8
  have k106 : hK (sI r.2 14 x (hI r.2 14 x + 1)) (γ.1 0) = 106 := by
    have := h.2.2.2.1
    rw [h0] at this
    show hK r.2 (γ.1 0) = 106
    rw [(r5.2.2.1 _ (hw.k this (by decide))).1]; exact this
  have l106 : hL (sI r.2 14 x (hI r.2 14 x + 1)) (γ.1 0) = 0 := by
    have := h.2.2.2.1
    rw [h0] at this
    show hL r.2 (γ.1 0) = 0
    rw [(r5.2.2.1 _ (hw.k this (by decide))).2]; exact hl0
  have hst : ∀ i, i < L.length → hK (sI r.2 14 x (hI r.2 14 x + 1)) (nd L i) ∈ stO := fun i hi => by
    have hm := hy.2.2.2.2.2.2.2.1 _ (List.getElem_mem hi)
    rw [nd_get hi]
    show hK r.2 L[i] ∈ stO
    rw [(r5.2.2.1 _ (hw.lt_of hm).2).1]; exact hm
  have al0 : AL γ (sI r.2 14 x (hI r.2 14 x + 1)) x [] := by
    obtain ⟨a1, a2, a3, a4⟩ := k1.1
    exact ⟨a1, a2, e16, a4⟩
  generalize sI r.2 14 x (hI r.2 14 x + 1) = g at *
  refine wp_gL (by rw [q2]; decide) ?_
  rw [q3]
  by_cases c0 : L.length = 0
  · have eL : L = [] := List.eq_nil_of_length_eq_zero c0
    rw [if_pos (show Int32.ofNat L.length = 0 by rw [c0]; rfl), show rtN .boolean (0 : Int32) g = some (0, g) from rfl]
    refine wp_some ⟨by rw [eL]; exact al0, Or.inl e15, f1, w1, ?_, ?_⟩
    · show hS g ≤ _
      omega
    · show hM g ≤ _
      omega
  · rw [if_neg (show ¬ Int32.ofNat L.length = 0 from fun e => c0 ((i_eq (b := 0) (by omega) (by omega)).mp e)), gR_ok (okf kx2 (by decide)), e15]
    refine wp_gL (by rw [k106]; decide) ?_
    rw [l106, gI_ok (okf kx2 (by decide)), e16]
    unfold jn
    dsimp only
    rw [if_neg (show ¬ Int32.ofNat L.length ≤ Int32.ofNat 0 - 0 by rw [show Int32.ofNat 0 - 0 = Int32.ofNat 0 from rfl, i_le (by omega) (by omega)]; omega), if_pos kx2, show (0 : Int32) + Int32.ofNat L.length = Int32.ofNat L.length from Int32.zero_add _]
    unfold f_J2_grow f_J16_max
    refine wp_bR ?_
    rw [gR_ok (okf kx2 (by decide)), e15]
    refine wp_gL (by rw [k106]; decide) ?_
    rw [l106]
    unfold jn
    dsimp only
    rw [if_neg (show ¬ 0 < Int32.ofNat 0 by decide), gR_ok (okf kx2 (by decide)), e15, if_pos rfl]
    have fin : ∀ n : Nat, L.length ≤ n → n ≤ 2 * L.length + 10 → n ≤ L.length + 10 → 0 < n → wp (mA g 106 (Int32.ofNat n) fun q14 g15 => pR γ g15 x 15 q14 fun g16 => some (q14, g16)) (fun r_1 => wp (nCQ γ r_1.2 r.1 0 r_1.1 0 (Int32.ofNat L.length) fun g12 => pI γ g12 x 16 (Int32.ofNat L.length) fun g13 => rtN .boolean (1 : Int32) g13) (fun r => AL γ r.2 x L ∧ (hR r.2 15 x = γ.1 0 ∨ hS G ≤ hR r.2 15 x) ∧ Fr (fun a => a = x) G r.2 ∧ Wf r.2 ∧ hS r.2 ≤ hS G + 2 ∧ hM r.2 ≤ hM G + (2 * L.length + 10))) := by
      intro n hn1 hn2 hn4 hn3
      refine wp_mA ⟨i_neg (by omega), by rw [i_nat (by omega)]; omega⟩ ?_
      rw [i_nat (by omega)]
      have lr : r.1 < hS g := w1.k q2 (by decide)
      have kx3 : hK (nA g 106 n) x = 3 := by rw [hK_nA, if_neg (by omega)]; exact kx2
      refine wp_pR (okw kx3 (by decide) x2) (wp_some ?_)
      have n106 : hK (sR (nA g 106 n) 15 x (hS g)) (hS g) = 106 := by
        show hK (nA g 106 n) (hS g) = 106
        rw [hK_nA, if_pos rfl]
      have nL : hL (sR (nA g 106 n) 15 x (hS g)) (hS g) = n := by
        show hL (nA g 106 n) (hS g) = n
        rw [hL_nA, if_pos rfl]
      have r106 : hK (sR (nA g 106 n) 15 x (hS g)) r.1 = 106 := by
        show hK (nA g 106 n) r.1 = 106
        rw [hK_nA, if_neg (by omega)]; exact q2
      have rL : hL (sR (nA g 106 n) 15 x (hS g)) r.1 = L.length := by
        show hL (nA g 106 n) r.1 = _
        rw [hL_nA, if_neg (by omega)]; exact q3
      have rQ : ∀ i, hQ (sR (nA g 106 n) 15 x (hS g)) r.1 i = hQ g r.1 i := fun i => by
        show hQ (nA g 106 n) r.1 i = _
        rw [hQ_nA, if_neg (by omega)]
      have n15 : hR (sR (nA g 106 n) 15 x (hS g)) 15 x = hS g := rs
      have f2 : Fr (fun a => a = x) G (sR (nA g 106 n) 15 x (hS g)) := (f1.nA).sR (Or.inl rfl)
      have w2 : Wf (sR (nA g 106 n) 15 x (hS g)) := (w1.nA).sR
      have s2 : hS (sR (nA g 106 n) 15 x (hS g)) = hS G + 2 := by rw [hS_sR, hS_nA]; omega
      have m2 : hM (sR (nA g 106 n) 15 x (hS g)) = hM G + L.length + n := by rw [hM_sR, hM_nA]; omega
      have kx4 : hK (sR (nA g 106 n) 15 x (hS g)) x = 3 := kx3
      have st2 : ∀ i, i < L.length → hK (sR (nA g 106 n) 15 x (hS g)) (nd L i) ∈ stO := fun i hi => by
        have := hst i hi
        show hK (nA g 106 n) (nd L i) ∈ stO
        rw [hK_nA, if_neg (by have := (w1.lt_of this).2; omega)]; exact this
      generalize sR (nA g 106 n) 15 x (hS g) = g2 at *
      have okc : okCpy γ g2 106 r.1 (hS g) 0 0 (Int32.ofNat L.length) := ⟨r106, n106, by omega, by decide, by decide, i_neg (by omega), by rw [i_nat (by omega), rL]; show 0 + _ ≤ _; omega, by rw [i_nat (by omega), nL]; show 0 + _ ≤ _; omega⟩
      have ec : nCQ γ g2 r.1 0 (hS g) 0 (Int32.ofNat L.length) (fun g12 => pI γ g12 x 16 (Int32.ofNat L.length) fun g13 => rtN .boolean (1 : Int32) g13) = (pI γ (sQr g2 (hS g) (va_cpy (hQ g2 r.1) (hQ g2 (hS g)) 0 0 L.length)) x 16 (Int32.ofNat L.length) fun g13 => rtN .boolean (1 : Int32) g13) := by
        unfold nCQ
        rw [if_pos ⟨okc, fun i hi => Or.inr (by
          rw [i_nat (by omega)] at hi
          show hK g2 (hQ g2 r.1 (0 + i)) ∈ stO
          rw [Nat.zero_add, rQ i, q4 i hi]
          exact st2 i hi)⟩, i_nat (by omega)]
        rfl
      rw [ec]
      have kx5 : hK (sQr g2 (hS g) (va_cpy (hQ g2 r.1) (hQ g2 (hS g)) 0 0 L.length)) x = 3 := kx4
      refine wp_pI ⟨okw kx5 (by decide) x2, rfl, rfl⟩ ?_
      rw [show ∀ g : AH, rtN .boolean (1 : Int32) g = some (1, g) from fun _ => rfl]
      have eQ : ∀ i, i < L.length → hQ (sI (sQr g2 (hS g) (va_cpy (hQ g2 r.1) (hQ g2 (hS g)) 0 0 L.length)) 16 x (Int32.ofNat L.length)) (hS g) i = nd L i := fun i hi => by
        show hQ (sQr g2 (hS g) (va_cpy (hQ g2 r.1) (hQ g2 (hS g)) 0 0 L.length)) (hS g) i = _
        rw [hQ_sQr, if_pos rfl]
        unfold va_cpy
        rw [if_pos (by omega), Nat.sub_zero, Nat.zero_add, rQ i, q4 i hi]
      refine wp_some ⟨⟨kx5, x2, ?_, ?_, ?_, ?_, fun i hi => ?_, fun v hv => ?_, Or.inr ⟨?_, ?_⟩⟩, Or.inr ?_, (f2.sQr (Or.inr (by omega))).sI (Or.inl rfl), (w2.sQr).sI, ?_, ?_⟩
      · rw [hI_sI, if_pos ⟨rfl, rfl⟩]
      · show hK g2 (hR g2 15 x) = 106
        rw [n15]; exact n106
      · show L.length ≤ hL g2 (hR g2 15 x)
        rw [n15, nL]; exact hn1
      · show hL g2 (hR g2 15 x) ≤ _
        rw [n15, nL]; exact hn2
      · show hQ (sI (sQr g2 (hS g) (va_cpy (hQ g2 r.1) (hQ g2 (hS g)) 0 0 L.length)) 16 x (Int32.ofNat L.length)) (hR g2 15 x) i = _
        rw [n15, eQ i hi, nd_get hi]
      · obtain ⟨i, hi, e⟩ := List.getElem_of_mem hv
        show hK g2 v ∈ stO
        rw [← e, ← nd_get hi]; exact st2 i hi
      · show γ.2 < hR g2 15 x
        rw [n15]; omega
      · show 0 < hL g2 (hR g2 15 x)
        rw [n15, nL]; exact hn3
      · show hS G ≤ hR g2 15 x
        rw [n15]; omega
      · show hS g2 ≤ _
        omega
      · show hM g2 ≤ _
        omega
    refine wp_bI ?_
    refine wp_ite (fun e => ?_) (fun e => ?_)
    · exact wp_some (fin L.length (Nat.le_refl _) (by omega) (by omega) (by omega))
    · have : L.length ≤ 10 := by
        rcases Nat.lt_or_ge 10 L.length with w | w
        · exact absurd ((i_lt (a := 10) (by omega) (by omega)).mpr w) e
        · exact w
      exact wp_some (fin 10 this (by omega) (by omega) (by omega))
end JL4
