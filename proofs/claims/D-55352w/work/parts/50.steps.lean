section STEPS
variable {γ : GP} {G : AH} {β : Type} {Q : β → Prop}
theorem keyStep {x it k : Nat} {T : List Nat} {m en : Nat → Nat} {A : AH → Option β} {Bd : Int32 → AH → Option β} (h : TM γ G x T m en) (hc : γ.1 9 ≤ γ.2 ∧ hK G (γ.1 9) = 107 ∧ ∀ i, i < 6 → bx γ G i ≤ γ.2) (t : TIt γ G it x en T k 17)
    (k0 : ¬ nx T k < 6 → wp (A G) Q)
    (k1 : nx T k < 6 → ∀ G1, TIt γ G1 it x en T (nx T k + 1) 17 → TM γ G1 x T m en → Fr (fun a => a = it) G G1 → Wf G1 → hS G1 = hS G → hM G1 = hM G → wp (Bd (Int32.ofNat (nx T k)) G1) Q) :
    wp (bI (if hK G it = 10 then f_J13_hasNext γ it G else if hK G it = 13 then f_J24_hasNext γ it G else if hK G it = 17 then f_J29_hasNext γ it G else if hK G it = 18 then f_J29_hasNext γ it G else none) fun v10 g9 => (if v10 = 0 then A g9 else bR (if hK g9 it = 10 then f_J13_next γ it g9 else if hK g9 it = 13 then f_J24_next γ it g9 else if hK g9 it = 17 then f_J31_next γ it g9 else if hK g9 it = 18 then f_J32_next γ it g9 else none) fun v12 g11 => gC g11 [12] v12 (bI (if hK g11 v12 = 12 then f_J21_intValue γ v12 g11 else none) Bd))) Q := by
  have hw := h.at0.2.2.2.2
  rw [dsp17 t.1, t.hasNext h (Or.inl rfl), bI_some]
  by_cases q : nx T k < 6
  · rw [if_pos q, if_neg (by decide), dsp17 t.1]
    unfold f_J31_next
    refine wp_bR (wp_bR (wp_ifc t.1 (wp_mono (t.nextEntry hw h (Or.inl rfl) q) (fun r hr => ?_))))
    obtain ⟨r1, r2, r3, r4, r5, r6⟩ := hr
    have h1 := h.keepIt (Or.inl t.1) t.2.1 hc r3 r4
    have e := h1.ent q (nx_lt q).1
    rw [r1]
    refine wp_gR (okf e.1 (by decide)) (wp_some ?_)
    rw [e.2.2.1]
    have kk := h1.key q
    refine wp_gC (Or.inr (okc kk.1 (by decide))) (wp_bI (wp_ifc kk.1 ?_))
    unfold f_J21_intValue
    refine wp_gI (okf kk.1 (by decide)) (wp_some ?_)
    rw [kk.2]
    exact k1 q _ r2 h1 r3 r4 r5 r6
  · rw [if_neg q, if_pos rfl]
    exact k0 q
theorem valStep {x it k : Nat} {T : List Nat} {m en : Nat → Nat} {A : AH → Option β} {Bd : Nat → AH → Option β} (h : TM γ G x T m en) (hc : γ.1 9 ≤ γ.2 ∧ hK G (γ.1 9) = 107 ∧ ∀ i, i < 6 → bx γ G i ≤ γ.2) (t : TIt γ G it x en T k 18)
    (k0 : ¬ nx T k < 6 → wp (A G) Q)
    (k1 : nx T k < 6 → ∀ G1, TIt γ G1 it x en T (nx T k + 1) 18 → TM γ G1 x T m en → Fr (fun a => a = it) G G1 → Wf G1 → hS G1 = hS G → hM G1 = hM G → wp (Bd (m (nx T k)) G1) Q) :
    wp (bI (if hK G it = 10 then f_J13_hasNext γ it G else if hK G it = 13 then f_J24_hasNext γ it G else if hK G it = 17 then f_J29_hasNext γ it G else if hK G it = 18 then f_J29_hasNext γ it G else none) fun v10 g9 => (if v10 = 0 then A g9 else bR (if hK g9 it = 10 then f_J13_next γ it g9 else if hK g9 it = 13 then f_J24_next γ it g9 else if hK g9 it = 17 then f_J31_next γ it g9 else if hK g9 it = 18 then f_J32_next γ it g9 else none) fun v12 g11 => gC g11 [22] v12 (Bd v12 g11))) Q := by
  have hw := h.at0.2.2.2.2
  rw [dsp18 t.1, t.hasNext h (Or.inr rfl), bI_some]
  by_cases q : nx T k < 6
  · rw [if_pos q, if_neg (by decide), dsp18 t.1]
    unfold f_J32_next
    refine wp_bR (wp_bR (wp_ifc t.1 (wp_mono (t.nextEntry hw h (Or.inr rfl) q) (fun r hr => ?_))))
    obtain ⟨r1, r2, r3, r4, r5, r6⟩ := hr
    have h1 := h.keepIt (Or.inr t.1) t.2.1 hc r3 r4
    have e := h1.ent q (nx_lt q).1
    rw [r1]
    refine wp_gR (okf e.1 (by decide)) (wp_some ?_)
    rw [e.2.2.2.1]
    exact wp_gC (Or.inr (okc e.2.2.2.2.1 (by decide))) (k1 q _ r2 h1 r3 r4 r5 r6)
  · rw [if_neg q, if_pos rfl]
    exact k0 q
theorem listStep {x it i c : Nat} {L : List Nat} {A : AH → Option β} {Bd : Nat → AH → Option β} (hw : Wf G) (h : AL γ G x L) (t : AIt γ G it x i) (hi : i ≤ L.length) (hL9 : L.length < 10000000) (hk : ∀ v ∈ L, hK G v = c)
    (k0 : i = L.length → wp (A G) Q)
    (k1 : i < L.length → ∀ G1, AIt γ G1 it x (i + 1) → AL γ G1 x L → Fr (fun a => a = it) G G1 → Wf G1 → hS G1 = hS G → hM G1 = hM G → wp (Bd (nd L i) G1) Q) :
    wp (bI (if hK G it = 10 then f_J13_hasNext γ it G else if hK G it = 13 then f_J24_hasNext γ it G else if hK G it = 17 then f_J29_hasNext γ it G else if hK G it = 18 then f_J29_hasNext γ it G else none) fun v10 g9 => (if v10 = 0 then A g9 else bR (if hK g9 it = 10 then f_J13_next γ it g9 else if hK g9 it = 13 then f_J24_next γ it g9 else if hK g9 it = 17 then f_J31_next γ it g9 else if hK g9 it = 18 then f_J32_next γ it g9 else none) fun v12 g11 => gC g11 [c] v12 (Bd v12 g11))) Q := by
  rw [dsp10 t.1, t.hasNext h hi hL9, bI_some]
  by_cases q : i = L.length
  · rw [if_pos q, if_pos rfl]
    exact k0 q
  · rw [if_neg q, if_neg (by decide), dsp10 t.1]
    have q2 : i < L.length := by omega
    refine wp_bR (wp_mono (AIt.next hw h t q2 hL9) (fun r hr => ?_))
    obtain ⟨r1, r2, r3, r4, r5, r6, r7⟩ := hr
    have e : nd L i = L[i] := nd_get q2
    have km : hK G (nd L i) = c := by rw [e]; exact hk _ (List.getElem_mem q2)
    have hs := h.2.2.2.2.2.2.2.1 _ (List.getElem_mem q2)
    have l : nd L i < hS G := by
      rw [e]
      exact hw.lt_of hs |>.2
    rw [r1, ← e]
    refine wp_gC (Or.inr (okc (by rw [(r4.2.2.1 _ l).1]; exact km) List.mem_cons_self)) (k1 q2 _ r2 r3 r4 r5 r6 r7)
end STEPS
