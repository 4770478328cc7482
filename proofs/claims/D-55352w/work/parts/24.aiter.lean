/-! ArrayList: made, iterated -/
theorem okf {G : AH} {a f c : Nat} (h : hK G a = c) (hf : f ∈ cFl c) : okF G a f := by
  unfold okF
  rw [h]; exact hf
theorem okw {γ : GP} {G : AH} {a f c : Nat} (h : hK G a = c) (hf : f ∈ cFl c ∧ c < 37) (hb : γ.2 < a) : okW γ G a f := by
  unfold okW
  rw [h]; exact ⟨hf.1, hf.2, hb⟩
theorem AL.made {γ : GP} {G : AH} {x : Nat} (hw : Wf G) (hk : hK G x = 3) (hx : γ.2 < x) (h16 : hI G 16 x = 0) (hc : hK G (γ.1 0) = 106 ∧ hL G (γ.1 0) = 0) :
    wp (f_J2_init γ x G) (fun r => AL γ r x [] ∧ hR r 15 x = γ.1 0 ∧ Fr (fun a => a = x) G r ∧ Wf r ∧ hS r = hS G ∧ hM r = hM G) := by
  unfold f_J2_init
  refine wp_bV (wp_ifc (by omega) ?_)
  unfold f_J1_init
  refine wp_bV (wp_ifc (by omega) ?_)
  unfold f_J0_init
  refine wp_ifc (by omega) (wp_some (wp_pI ⟨⟨by rw [hk]; decide, by rw [hk]; decide, hx⟩, rfl, rfl⟩ (wp_some (wp_pR ⟨by show 15 ∈ cFl (hK G x); rw [hk]; decide, by show hK G x < 37; rw [hk]; decide, hx⟩ (wp_some ?_)))))
  have e15 : hR (sR (sI G 14 x 0) 15 x (γ.1 0)) 15 x = γ.1 0 := by rw [hR_sR, if_pos ⟨rfl, rfl⟩]
  refine ⟨⟨hk, hx, ?_, ?_, Nat.zero_le _, ?_, ?_, ?_, ?_⟩, e15, ((Fr.refl (fun a => a = x) G).sI (Or.inl rfl)).sR (Or.inl rfl), (hw.sI).sR, rfl, rfl⟩
  · show hI (sI G 14 x 0) 16 x = _
    rw [hI_sI, if_neg (fun h => absurd h.1 (by decide))]; exact h16
  · rw [e15]; exact hc.1
  · rw [e15]
    show hL G (γ.1 0) ≤ _
    omega
  · intro i hi; exact absurd hi (Nat.not_lt_zero _)
  · intro v hv; cases hv
  · exact Or.inl ⟨e15, by rw [e15]; exact hc.2⟩
/-- an iterator over the list at x, ahead of element i -/
def AIt (γ : GP) (G : AH) (it x i : Nat) : Prop := hK G it = 10 ∧ γ.2 < it ∧ hR G 60 it = x ∧ hI G 57 it = Int32.ofNat i ∧ hI G 59 it = hI G 14 x
theorem AL.iterator {γ : GP} {G : AH} {x : Nat} {L : List Nat} (hw : Wf G) (hb : γ.2 < hS G) (h : AL γ G x L) :
    wp (f_J2_iterator γ x G) (fun r => r.1 = hS G ∧ AIt γ r.2 r.1 x 0 ∧ Fr (fun _ => False) G r.2 ∧ Wf r.2 ∧ hS r.2 = hS G + 1 ∧ hM r.2 = hM G + 4) := by
  have hx := hw.2 x (by rw [h.1]; decide)
  have hne : x ≠ hS G := by omega
  have hKx : hK (nO G 10 (cInst 10)) x = 3 := by rw [hK_nO, if_neg hne]; exact h.1
  have hKi : hK (nO G 10 (cInst 10)) (hS G) = 10 := by rw [hK_nO, if_pos rfl]
  unfold f_J2_iterator
  refine wp_mO (wp_bV (wp_ifc (by omega) ?_))
  unfold f_J13_init
  refine wp_pR ⟨by rw [hKi]; decide, by rw [hKi]; decide, hb⟩ (wp_ifc (by omega) (wp_pI ⟨⟨by show 58 ∈ cFl (hK (nO G 10 (cInst 10)) (hS G)); rw [hKi]; decide, by show hK (nO G 10 (cInst 10)) (hS G) < 37; rw [hKi]; decide, hb⟩, rfl, rfl⟩ ?_))
  refine wp_gR (by show 60 ∈ cFl (hK (nO G 10 (cInst 10)) (hS G)); rw [hKi]; decide) ?_
  have e60 : hR (sI (sR (nO G 10 (cInst 10)) 60 (hS G) x) 58 (hS G) (-1)) 60 (hS G) = x := by
    show hR (sR (nO G 10 (cInst 10)) 60 (hS G) x) 60 (hS G) = x
    rw [hR_sR, if_pos ⟨rfl, rfl⟩]
  rw [e60]
  refine wp_gI (by show 14 ∈ cFl (hK (nO G 10 (cInst 10)) x); rw [hKx]; decide) (wp_pI ⟨⟨by show 59 ∈ cFl (hK (nO G 10 (cInst 10)) (hS G)); rw [hKi]; decide, by show hK (nO G 10 (cInst 10)) (hS G) < 37; rw [hKi]; decide, hb⟩, rfl, rfl⟩ (wp_some (wp_some ?_)))
  refine ⟨rfl, ⟨hKi, hb, e60, ?_, ?_⟩, ?_, ((hw.nO.sR).sI).sI, rfl, rfl⟩
  · rw [hI_sI, if_neg (fun h => absurd h.1 (by decide)), hI_sI, if_neg (fun h => absurd h.1 (by decide))]
    show hI (nO G 10 (cInst 10)) 57 (hS G) = _
    rw [hI_nO, if_pos rfl]; rfl
  · rw [hI_sI, if_pos ⟨rfl, rfl⟩, hI_sI, if_neg (fun h => absurd h.1 (by decide))]
    rw [hI_sI, if_neg (fun h => absurd h.1 (by decide)), hI_sI, if_neg (fun h => absurd h.1 (by decide))]
  · exact ((((Fr.refl _ G).nO).sR (Or.inr (Nat.le_refl _))).sI (Or.inr (Nat.le_refl _))).sI (Or.inr (Nat.le_refl _))
theorem AIt.hasNext {γ : GP} {G : AH} {it x i : Nat} {L : List Nat} (hA : AL γ G x L) (h : AIt γ G it x i) (hi : i ≤ L.length) (hL9 : L.length < 10000000) :
    f_J13_hasNext γ it G = some ((if i = L.length then 0 else 1), G) := by
  unfold f_J13_hasNext gI gR
  rw [if_pos (okf h.1 (by decide))]
  dsimp only
  rw [if_pos (okf h.1 (by decide)), h.2.2.1, if_pos (okf hA.1 (by decide)), hA.2.2.1, h.2.2.2.1]
  by_cases e : i = L.length
  · rw [if_pos (by rw [e]), if_pos e]; rfl
  · rw [if_neg (fun k => e ((i_eq (by omega) (by omega)).mp k)), if_neg e]; rfl
theorem AIt.next {γ : GP} {G : AH} {it x i : Nat} {L : List Nat} (hw : Wf G) (hA : AL γ G x L) (h : AIt γ G it x i) (hi : i < L.length) (hL9 : L.length < 10000000) :
    wp (f_J13_next γ it G) (fun r => r.1 = L[i] ∧ AIt γ r.2 it x (i + 1) ∧ AL γ r.2 x L ∧ Fr (fun a => a = it) G r.2 ∧ Wf r.2 ∧ hS r.2 = hS G ∧ hM r.2 = hM G) := by
  obtain ⟨h1, h2, h3, h4, h5⟩ := h
  have hne : x ≠ it := fun e => by rw [e] at hA; have := hA.1; omega
  have hA0 := hA
  obtain ⟨a1, a2, a3, a4, a5, a6, a7, a8, a9⟩ := hA
  unfold f_J13_next
  refine wp_bV (wp_ifc h1 ?_)
  unfold f_J13_checkForComodification
  refine wp_gR (okf h1 (by decide)) (wp_gI (okf (c := 3) (by rw [h3]; exact a1) (by decide)) (wp_gI (okf h1 (by decide)) (wp_ifc (by rw [h3]; exact h5.symm) (wp_some ?_))))
  refine wp_gI (okf h1 (by decide)) (wp_gR (okf h1 (by decide)) (wp_gI (okf (c := 3) (by rw [h3]; exact a1) (by decide)) ?_))
  rw [h3, a3, h4]
  refine wp_ifc ((i_lt (by omega) (by omega)).mpr hi) (wp_gR (okf h1 (by decide)) ?_)
  rw [h3]
  refine wp_gR (okf a1 (by decide)) (wp_gL (by rw [a4]; decide) (wp_ifc ((i_lt (by omega) (by omega)).mpr (by omega)) ?_))
  refine wp_pI ⟨okw h1 (by decide) h2, rfl, rfl⟩ (wp_pI ⟨okw h1 (by decide) h2, rfl, rfl⟩ ?_)
  refine wp_gQ ⟨a4, by rw [i_nat (by omega)]; intro hh; rcases hh with hh | hh; exact i_neg (by omega) hh; exact absurd hh (by show ¬ hL G (hR G 15 x) ≤ i; omega)⟩ (wp_some ?_)
  rw [i_nat (by omega), show (1 : Int32) = Int32.ofNat 1 from rfl, i_add]
  refine ⟨a7 i hi, ⟨h1, h2, h3, ?_, ?_⟩, ⟨a1, a2, ?_, a4, a5, a6, a7, a8, a9⟩, ((Fr.refl (fun a => a = it) G).sI (Or.inl rfl)).sI (Or.inl rfl), (hw.sI).sI, rfl, rfl⟩
  · rw [hI_sI, if_neg (fun h => absurd h.1 (by decide)), hI_sI, if_pos ⟨rfl, rfl⟩]
  · rw [hI_sI, if_neg (fun h => absurd h.1 (by decide)), hI_sI, if_neg (fun h => absurd h.1 (by decide)), hI_sI, if_neg (fun h => absurd h.1 (by decide)), hI_sI, if_neg (fun h => absurd h.1 (by decide))]
    exact h5
  · rw [hI_sI, if_neg (fun h => absurd h.1 (by decide)), hI_sI, if_neg (fun h => absurd h.1 (by decide))]
    exact a3
