section JL5
variable {γ : GP} {G : AH} {x : Nat} {L ns : List Nat}
theorem LL.toArrLoop {a : Nat} (hL9 : L.length < 10000000) (n : Nat) : ∀ (j : Nat) (g : AH), L.length - j < n → j ≤ L.length → LL γ g x ns L → Wf g → (∀ v ∈ L, hK g v ∈ stO) → hK g a = 106 → hL g a = L.length → γ.2 < a → (∀ i, i < j → hQ g a i = nd L i) →
    wp (f_J4_toArray_L15 γ a n (Int32.ofNat j) (nd ns j) g) (fun r => r.1 = a ∧ (∀ i, i < L.length → hQ r.2 a i = nd L i) ∧ Fr (fun b => b = a) g r.2 ∧ Wf r.2 ∧ hS r.2 = hS g ∧ hM r.2 = hM g) := by
  induction n with
  | zero => intro j g hk; exact absurd hk (Nat.not_lt_zero _)
  | succ n ih =>
    intro j g hn hj h hw hst ka la ha q
    have h0 := h
    obtain ⟨h1, h2, h3, h4, h5, h6, h7, h8⟩ := h
    unfold f_J4_toArray_L15
    by_cases c : j = L.length
    · rw [if_pos (nd_out (by omega))]
      exact wp_some ⟨rfl, fun i hi => q i (by omega), Fr.refl _ _, hw, rfl, rfl⟩
    · have hj2 : j < L.length := by omega
      obtain ⟨m1, m2, m3, m4, m5⟩ := h8 j (by omega)
      rw [if_neg (by omega), gR_ok (okf m1 (by decide)), m3]
      refine wp_pQ ⟨⟨okx ka la hj2 (by omega), ha⟩, by rw [nd_get hj2]; exact hst _ (List.getElem_mem hj2)⟩ ?_
      rw [i_nat (by omega)]
      have f1 : Fr (fun b => b = a) g (sQ g a j (nd L j)) := (Fr.refl _ _).sQ (Or.inl rfl)
      have w1 : Wf (sQ g a j (nd L j)) := hw.sQ
      have k1 : hK (sQ g a j (nd L j)) (nd ns j) = 19 := m1
      rw [gR_ok (okf k1 (by decide)), show hR (sQ g a j (nd L j)) 85 (nd ns j) = nd ns (j + 1) from m4, show Int32.ofNat j + 1 = Int32.ofNat (j + 1) from i_add j 1]
      have l1 : LL γ (sQ g a j (nd L j)) x ns L := LL.keep hw f1 h0 (fun e => by rw [e, ka] at h1; exact absurd h1 (by decide)) (fun b hb e => by
        obtain ⟨i, hi, e2⟩ := List.getElem_of_mem hb
        have kk := (h8 i hi).1
        rw [nd_get hi, e2, e, ka] at kk
        exact absurd kk (by decide))
      refine wp_mono (ih (j + 1) _ (by omega) (by omega) l1 w1 (fun v hv => hst v hv) ka la ha (fun i hi => ?_)) (fun r hr => ⟨hr.1, hr.2.1, f1.trans hr.2.2.1 (fun _ e => Or.inl e), hr.2.2.2.1, hr.2.2.2.2.1, hr.2.2.2.2.2⟩)
      rw [hQ_sQ]
      by_cases e : i = j
      · rw [if_pos ⟨rfl, e⟩, e]
      · rw [if_neg (fun w => e w.2)]; exact q i (by omega)
theorem LL.toArray (hw : Wf G) (hb : γ.2 < hS G) (h : LL γ G x ns L) (hst : ∀ v ∈ L, hK G v ∈ stO) (hL9 : L.length < 10000000) : wp (f_J4_toArray γ x G) (fun r => hK r.2 r.1 = 106 ∧ hL r.2 r.1 = L.length ∧ (∀ i, i < L.length → hQ r.2 r.1 i = nd L i) ∧ Fr (fun _ => False) G r.2 ∧ Wf r.2 ∧ hS r.2 = hS G + 1 ∧ hM r.2 = hM G + L.length) := by
  have h0 := h
  obtain ⟨h1, h2, h3, h4, h5, h6, h7, h8⟩ := h
  have lx := hw.k h1 (by decide)
  unfold f_J4_toArray
  rw [gI_ok (okf h1 (by decide)), h4]
  refine wp_mA ⟨i_neg (by omega), by rw [i_nat (by omega)]; omega⟩ ?_
  rw [i_nat (by omega)]
  have f1 : Fr (fun _ => False) G (nA G 106 L.length) := (Fr.refl _ _).nA
  have w1 : Wf (nA G 106 L.length) := hw.nA
  have k1 : hK (nA G 106 L.length) x = 5 := by rw [hK_nA, if_neg (by omega)]; exact h1
  have ka : hK (nA G 106 L.length) (hS G) = 106 := by rw [hK_nA, if_pos rfl]
  have la : hL (nA G 106 L.length) (hS G) = L.length := by rw [hL_nA, if_pos rfl]
  have l1 : LL γ (nA G 106 L.length) x ns L := LL.keep hw f1 h0 (fun q => q) (fun _ _ q => q)
  rw [gR_ok (okf k1 (by decide)), l1.2.2.2.2.1]
  refine wp_mono (LL.toArrLoop (L := L) hL9 FU 0 _ (by show _ < 4294967296; omega) (Nat.zero_le _) l1 w1 (fun v hv => ?_) ka la hb (fun i hi => absurd hi (Nat.not_lt_zero _))) (fun r hr => ?_)
  · have := hst v hv
    rw [hK_nA, if_neg (by have := (hw.lt_of this).2; omega)]; exact this
  · obtain ⟨r1, r2, r3, r4, r5, r6⟩ := hr
    have fa : Fr (fun _ => False) G r.2 := f1.trans r3 (fun b e => Or.inr (by rw [e]; exact Nat.le_refl _))
    have kk := r3.2.2.1 (hS G) (by rw [hS_nA]; omega)
    rw [r1]
    exact ⟨by rw [kk.1]; exact ka, by rw [kk.2]; exact la, r2, fa, r4, by rw [r5, hS_nA], by rw [r6, hM_nA]⟩
end JL5
