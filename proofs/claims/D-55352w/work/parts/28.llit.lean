/-! LinkedList, iterated -/
def LIt (γ : GP) (G : AH) (it x : Nat) (ns : List Nat) (j : Nat) : Prop := hK G it = 13 ∧ γ.2 < it ∧ hR G 66 it = x ∧ hR G 63 it = nd ns j ∧ hI G 64 it = Int32.ofNat j ∧ hI G 65 it = hI G 14 x
theorem LIt.hasNext {γ : GP} {G : AH} {it x j : Nat} {ns L : List Nat} (hA : LL γ G x ns L) (h : LIt γ G it x ns j) (hj : j ≤ L.length) (hL9 : L.length < 10000000) :
    f_J24_hasNext γ it G = some ((if j = L.length then 0 else 1), G) := by
  unfold f_J24_hasNext gI gR
  rw [if_pos (okf h.1 (by decide))]
  dsimp only
  rw [if_pos (okf h.1 (by decide)), h.2.2.1, if_pos (okf hA.1 (by decide)), hA.2.2.2.1, h.2.2.2.2.1]
  by_cases e : j = L.length
  · rw [if_pos ((i_le (by omega) (by omega)).mpr (by omega)), if_pos e]; rfl
  · rw [if_neg (fun k => e (by have := (i_le (by omega) (by omega)).mp k; omega)), if_neg e]; rfl
theorem LIt.next {γ : GP} {G : AH} {it x j : Nat} {ns L : List Nat} (hw : Wf G) (hA : LL γ G x ns L) (h : LIt γ G it x ns j) (hj : j < L.length) (hL9 : L.length < 10000000) :
    wp (f_J24_next γ it G) (fun r => r.1 = nd L j ∧ LIt γ r.2 it x ns (j + 1) ∧ LL γ r.2 x ns L ∧ Fr (fun a => a = it) G r.2 ∧ Wf r.2 ∧ hS r.2 = hS G ∧ hM r.2 = hM G) := by
  have hH := h.hasNext hA (by omega) hL9
  obtain ⟨h1, h2, h3, h4, h5, h6⟩ := h
  have hA0 := hA
  obtain ⟨a1, a2, a3, a4, a5, a6, a7, a8⟩ := hA
  obtain ⟨m1, m2, m3, m4, m5⟩ := a8 j (by omega)
  have hni : nd ns j ≠ it := fun e => by rw [e, h1] at m1; omega
  have hxi : x ≠ it := fun e => by rw [e, h1] at a1; omega
  unfold f_J24_next
  refine wp_bV (wp_ifc h1 ?_)
  unfold f_J24_checkForComodification
  refine wp_gR (okf h1 (by decide)) (wp_gI (okf (c := 5) (by rw [h3]; exact a1) (by decide)) (wp_gI (okf h1 (by decide)) (wp_ifc (by rw [h3]; exact h6.symm) (wp_some ?_))))
  refine wp_bI (wp_ifc h1 ?_)
  rw [hH, if_neg (by omega)]
  refine wp_some ?_
  refine wp_ite (fun e => absurd (show (1 : Int32) = 0 from e) (by decide)) (fun _ => ?_)
  refine wp_gR (okf h1 (by decide)) (wp_pR (okw h1 (by decide) h2) (wp_gR (okf (c := 13) h1 (by decide)) ?_))
  rw [rf (by decide), h4]
  refine wp_gR (okf (c := 19) m1 (by decide)) (wp_pR (okw (c := 13) h1 (by decide) h2) (wp_gI (okf (c := 13) h1 (by decide)) (wp_pI ⟨okw (c := 13) h1 (by decide) h2, rfl, rfl⟩ (wp_gR (okf (c := 13) h1 (by decide)) ?_))))
  have e62 : hR (sI (sR (sR G 62 it (nd ns j)) 63 it (hR (sR G 62 it (nd ns j)) 85 (nd ns j))) 64 it (hI (sR (sR G 62 it (nd ns j)) 63 it (hR (sR G 62 it (nd ns j)) 85 (nd ns j))) 64 it + 1)) 62 it = nd ns j := by
    show hR (sR (sR G 62 it (nd ns j)) 63 it (hR (sR G 62 it (nd ns j)) 85 (nd ns j))) 62 it = _
    rw [rf (by decide), rs]
  rw [e62]
  refine wp_gR (okf (c := 19) m1 (by decide)) (wp_some ?_)
  have hF : Fr (fun a => a = it) G (sI (sR (sR G 62 it (nd ns j)) 63 it (hR (sR G 62 it (nd ns j)) 85 (nd ns j))) 64 it (hI (sR (sR G 62 it (nd ns j)) 63 it (hR (sR G 62 it (nd ns j)) 85 (nd ns j))) 64 it + 1)) :=
    (((Fr.refl (fun a => a = it) G).sR (Or.inl rfl)).sR (Or.inl rfl)).sI (Or.inl rfl)
  refine ⟨?_, ⟨h1, h2, ?_, ?_, ?_, ?_⟩, hA0.keep hw hF hxi (fun a ha e => ?_), hF, ((hw.sR).sR).sI, rfl, rfl⟩
  · show hR (sR (sR G 62 it (nd ns j)) 63 it (hR (sR G 62 it (nd ns j)) 85 (nd ns j))) 84 (nd ns j) = _
    rw [rf (by decide), rf (by decide)]; exact m3
  · show hR (sR (sR G 62 it (nd ns j)) 63 it (hR (sR G 62 it (nd ns j)) 85 (nd ns j))) 66 it = _
    rw [rf (by decide), rf (by decide)]; exact h3
  · show hR (sR (sR G 62 it (nd ns j)) 63 it (hR (sR G 62 it (nd ns j)) 85 (nd ns j))) 63 it = _
    rw [rs, rf (by decide)]; exact m4
  · rw [hI_sI, if_pos ⟨rfl, rfl⟩]
    show hI G 64 it + 1 = _
    rw [h5, show (1 : Int32) = Int32.ofNat 1 from rfl, i_add]
  · rw [hI_sI, if_neg (fun h => absurd h.1 (by decide)), hI_sI, if_neg (fun h => absurd h.1 (by decide))]
    exact h6
  · obtain ⟨i, hi, e2⟩ := List.getElem_of_mem ha
    have := (a8 i hi).1
    rw [nd_get hi, e2] at this
    subst e
    omega
theorem LL.iterator {γ : GP} {G : AH} {x : Nat} {ns L : List Nat} (hw : Wf G) (hb : γ.2 < hS G) (h : LL γ G x ns L) (hL9 : L.length < 10000000) :
    wp (f_J3_iterator γ x G) (fun r => r.1 = hS G ∧ LIt γ r.2 r.1 x ns 0 ∧ LL γ r.2 x ns L ∧ Fr (fun _ => False) G r.2 ∧ Wf r.2 ∧ hS r.2 = hS G + 1 ∧ hM r.2 = hM G + 5) := by
  have h0 := h
  obtain ⟨a1, a2, a3, a4, a5, a6, a7, a8⟩ := h
  have hx := hw.2 x (by omega)
  have hne : x ≠ hS G := by omega
  have hq0 : hS G ≠ 0 := by omega
  have hKi : hK (nO G 13 (cInst 13)) (hS G) = 13 := by rw [hK_nO, if_pos rfl]
  have hKx : hK (nO G 13 (cInst 13)) x = 5 := by rw [hK_nO, if_neg hne]; exact a1
  have hFU : FU = 4294967296 := rfl
  have ck : f_J4_checkPositionIndex γ x 0 G = some G := by
    unfold f_J4_checkPositionIndex
    rw [if_pos a1]
    unfold f_J4_isPositionIndex
    rw [if_neg (by decide)]
    unfold gI
    rw [if_pos (okf a1 (by decide)), a4]
    dsimp only
    rw [show (0 : Int32) = Int32.ofNat 0 from rfl, if_neg (by rw [i_lt (by omega) (by omega)]; omega)]
    rfl
  unfold f_J3_iterator
  refine wp_bR (wp_ifc a1 ?_)
  unfold f_J1_listIterator
  refine wp_bR (wp_ifc a1 ?_)
  unfold f_J4_listIterator
  rw [if_pos a1, ck, bV_some]
  refine wp_mO (wp_bV (wp_ifc hq0 ?_))
  unfold f_J24_init
  refine wp_pR (okw hKi (by decide) hb) (wp_ifc hq0 (wp_gR (okf (c := 13) hKi (by decide)) ?_))
  rw [rs]
  have hF0 : Fr (fun _ => False) G (sR (nO G 13 (cInst 13)) 66 (hS G) x) := ((Fr.refl _ G).nO).sR (Or.inr (Nat.le_refl _))
  have h14 : hI (sR (nO G 13 (cInst 13)) 66 (hS G) x) 14 x = hI G 14 x := (hF0.2.2.2 x hx.2 (fun h => h)).1 14
  have h19 : hI (sI (sR (nO G 13 (cInst 13)) 66 (hS G) x) 65 (hS G) (hI (sR (nO G 13 (cInst 13)) 66 (hS G) x) 14 x)) 19 x = Int32.ofNat L.length := by
    rw [hI_sI, if_neg (fun h => absurd h.1 (by decide))]
    exact ((hF0.2.2.2 x hx.2 (fun h => h)).1 19).trans a4
  refine wp_gI (okf (c := 5) hKx (by decide)) (wp_pI ⟨okw (c := 13) hKi (by decide) hb, rfl, rfl⟩ (wp_gI (okf (c := 5) hKx (by decide)) ?_))
  rw [h19, h14]
  have hF1 : Fr (fun _ => False) G (sI (sR (nO G 13 (cInst 13)) 66 (hS G) x) 65 (hS G) (hI G 14 x)) := hF0.sI (Or.inr (Nat.le_refl _))
  have w1 : Wf (sI (sR (nO G 13 (cInst 13)) 66 (hS G) x) 65 (hS G) (hI G 14 x)) := (hw.nO.sR).sI
  have fin : ∀ v : Nat, v = nd ns 0 → wp (pR γ (sI (sR (nO G 13 (cInst 13)) 66 (hS G) x) 65 (hS G) (hI G 14 x)) (hS G) 63 v fun g6 => pI γ g6 (hS G) 64 0 fun g7 => some g7) (fun r => wp (some (hS G, r)) (fun r => wp (some (r.1, r.2)) (fun r => wp (some (r.1, r.2)) (fun r => r.1 = hS G ∧ LIt γ r.2 r.1 x ns 0 ∧ LL γ r.2 x ns L ∧ Fr (fun _ => False) G r.2 ∧ Wf r.2 ∧ hS r.2 = hS G + 1 ∧ hM r.2 = hM G + 5)))) := by
    intro v hv
    refine wp_pR (okw (c := 13) hKi (by decide) hb) (wp_pI ⟨okw (c := 13) hKi (by decide) hb, rfl, rfl⟩ (wp_some (wp_some (wp_some (wp_some ?_)))))
    have hF2 := (hF1.sR (f := 63) (a := hS G) (v := v) (Or.inr (Nat.le_refl _))).sI (f := 64) (a := hS G) (v := 0) (Or.inr (Nat.le_refl _))
    refine ⟨rfl, ⟨hKi, hb, ?_, ?_, ?_, ?_⟩, h0.keep hw hF2 (fun h => h) (fun _ _ h => h), hF2, (w1.sR).sI, rfl, rfl⟩
    · show hR (sR (sI (sR (nO G 13 (cInst 13)) 66 (hS G) x) 65 (hS G) (hI G 14 x)) 63 (hS G) v) 66 (hS G) = x
      rw [rf (by decide)]
      exact rs
    · show hR (sR (sI (sR (nO G 13 (cInst 13)) 66 (hS G) x) 65 (hS G) (hI G 14 x)) 63 (hS G) v) 63 (hS G) = _
      rw [rs]; exact hv
    · rw [hI_sI, if_pos ⟨rfl, rfl⟩]; rfl
    · have e1 := (hF2.2.2.2 x hx.2 (fun h => h)).1 14
      show hI (sI (sR (sI (sR (nO G 13 (cInst 13)) 66 (hS G) x) 65 (hS G) (hI G 14 x)) 63 (hS G) v) 64 (hS G) 0) 65 (hS G) = hI (sI (sR (sI (sR (nO G 13 (cInst 13)) 66 (hS G) x) 65 (hS G) (hI G 14 x)) 63 (hS G) v) 64 (hS G) 0) 14 x
      rw [e1, hI_sI, if_neg (fun h => absurd h.1 (by decide))]
      show hI (sI (sR (nO G 13 (cInst 13)) 66 (hS G) x) 65 (hS G) (hI G 14 x)) 65 (hS G) = _
      rw [hI_sI, if_pos ⟨rfl, rfl⟩]
  refine wp_ite (fun he => ?_) (fun he => ?_)
  · have hz : L.length = 0 := ((i_eq (a := 0) (by omega) (by omega)).mp he).symm
    exact fin 0 (nd_out (by omega)).symm
  · have hz : 0 < L.length := by
      rcases Nat.eq_zero_or_pos L.length with h | h
      · exact absurd (by rw [h]; rfl) he
      · exact h
    have hA1 : LL γ (sI (sR (nO G 13 (cInst 13)) 66 (hS G) x) 65 (hS G) (hI G 14 x)) x ns L := h0.keep hw hF1 (fun h => h) (fun _ _ h => h)
    have nde : f_J4_node γ x 0 (sI (sR (nO G 13 (cInst 13)) 66 (hS G) x) 65 (hS G) (hI G 14 x)) = some (nd ns 0, sI (sR (nO G 13 (cInst 13)) 66 (hS G) x) 65 (hS G) (hI G 14 x)) := hA1.node hL9 hz
    rw [if_pos (show hK (sI (sR (nO G 13 (cInst 13)) 66 (hS G) x) 65 (hS G) (hI G 14 x)) x = 5 from hKx), nde, bR_some]
    exact fin _ rfl
