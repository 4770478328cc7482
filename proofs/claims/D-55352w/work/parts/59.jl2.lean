section JL2
variable {γ : GP} {G : AH} {x : Nat} {L ns : List Nat}
theorem LL.toQ (h : LL γ G x ns L) : LLq γ G x ns L := ⟨h.1, h.2.1, h.2.2.1, h.2.2.2.2.1, h.2.2.2.2.2.2.1, h.2.2.2.2.2.2.2⟩
theorem LLq.keepF {P : Nat → Prop} {G1 : AH} (h : LLq γ G x ns L) (hw : Wf G) (hF : Fr P G G1) (hx : ¬ P x) (hn : ∀ a ∈ ns, ¬ P a) : LLq γ G1 x ns L := by
  obtain ⟨h1, h2, h3, h4, h5, h6⟩ := h
  have lx := hw.k h1 (by decide)
  refine ⟨by rw [(hF.2.2.1 x lx).1]; exact h1, h2, h3, by rw [(hF.2.2.2 x lx hx).2.1]; exact h4, h5, fun i hi => ?_⟩
  obtain ⟨m1, m2, m3, m4, m5⟩ := h6 i hi
  have l := hw.k m1 (by decide)
  have s := hF.2.2.2 _ l (hn _ (nd_mem hi))
  exact ⟨by rw [(hF.2.2.1 _ l).1]; exact m1, m2, by rw [s.2.1]; exact m3, by rw [s.2.1]; exact m4, by rw [s.2.1]; exact m5⟩
/-- addAll: what stands in the collection at y goes behind -/
theorem LL.addAll {y : Nat} {M : List Nat} (hw : Wf G) (hb : γ.2 < hS G) (h : LL γ G x ns L) (hL9 : L.length + M.length < 10000000)
    (hA : wp (if hK G y = 3 then f_J2_toArray γ y G else if hK G y = 5 then f_J4_toArray γ y G else none) (fun r => hK r.2 r.1 = 106 ∧ hL r.2 r.1 = M.length ∧ (∀ i, i < M.length → hQ r.2 r.1 i = nd M i) ∧ Fr (fun _ => False) G r.2 ∧ Wf r.2 ∧ hS r.2 = hS G + 1 ∧ hM r.2 = hM G + M.length)) :
    wp (f_J4_addAll γ x y G) (fun r => ∃ ns2, LL γ r.2 x ns2 (L ++ M) ∧ (∀ b ∈ ns2, b ∈ ns ∨ hS G ≤ b) ∧ Fr (LLp x ns) G r.2 ∧ Wf r.2 ∧ hS r.2 = hS G + 1 + M.length ∧ hM r.2 = hM G + 4 * M.length) := by
  have hx := h.1
  have hsz := h.2.2.2.1
  unfold f_J4_addAll
  rw [gI_ok (okf hx (by decide)), hsz, if_pos hx]
  unfold f_J4_addAll_2
  have ck : f_J4_checkPositionIndex γ x (Int32.ofNat L.length) G = some G := by
    unfold f_J4_checkPositionIndex
    rw [if_pos hx]
    unfold f_J4_isPositionIndex
    rw [if_neg (i_neg (by omega)), gI_ok (okf hx (by decide)), hsz, if_neg (by rw [i_lt (by omega) (by omega)]; omega)]
    rfl
  rw [if_pos hx, ck, bV_some]
  refine wp_bI (wp_bR (wp_mono hA (fun r hr => ?_)))
  obtain ⟨r1, r2, r3, r4, r5, r6, r7⟩ := hr
  have fq : Fc (fun _ => False) G r.2 := r4.toC hw (fun _ _ q => q.elim)
  have h1 : LL γ r.2 x ns L := h.keepC hw fq (fun q => q) (fun _ _ q => q)
  refine wp_gL (by rw [r1]; decide) ?_
  rw [r2]
  by_cases c0 : M.length = 0
  · have eM : M = [] := List.eq_nil_of_length_eq_zero c0
    rw [if_pos (by rw [c0]; rfl), show rtN .boolean (0 : Int32) r.2 = some (0, r.2) from rfl]
    refine wp_some ?_
    rw [show rtN .boolean (0 : Int32) r.2 = some (0, r.2) from rfl]
    refine wp_some ⟨ns, by rw [eM, List.append_nil]; exact h1, fun b hbb => Or.inl hbb, r4.mono (fun _ _ q => q.elim), r5, ?_, ?_⟩
    · show hS r.2 = _
      omega
    · show hM r.2 = _
      omega
  · rw [if_neg (show ¬ Int32.ofNat M.length = 0 from fun e => c0 ((i_eq (b := 0) (by omega) (by omega)).mp e)), gI_ok (okf h1.1 (by decide)), h1.2.2.2.1]
    unfold jn
    dsimp only
    rw [if_pos rfl, gR_ok (okf h1.1 (by decide))]
    refine wp_gL (by rw [r1]; decide) ?_
    rw [r2, h1.2.2.2.2.2.1]
    have ep : nd ns (ns.length - 1) = if ns.length = 0 then 0 else nd ns (ns.length - 1) := by
      by_cases c : ns.length = 0
      · rw [if_pos c, nd_out (by omega)]
      · rw [if_neg c]
    have hne : ∀ a, LLp x ns a → hK G a = 5 ∨ hK G a = 19 := fun a q => by
      rcases q with e | e
      · rw [e]; exact Or.inl hx
      · obtain ⟨i, hi, e2⟩ := List.getElem_of_mem e
        have := (h.2.2.2.2.2.2.2 i hi).1
        rw [nd_get hi, e2] at this
        exact Or.inr this
    refine LLq.loop (M := M) (by omega) FU 0 ns L r.2 _ (by show _ < 4294967296; omega) (Nat.zero_le _) r5 (by omega) h1.toQ ep r1 r2 r3 (fun r8 ns2 p2 q1 q2 q3 q4 q5 q6 q7 q8 => ?_)
    rw [List.drop_zero] at q1
    have kx8 := q1.1
    have hns2 : ns2.length = L.length + M.length := by rw [q1.2.2.1, List.length_append]
    rw [if_pos rfl]
    refine wp_pR (okw kx8 (by decide) h.2.1) ?_
    have lx := hw.k hx (by decide)
    have e19 : hI r8 19 x = Int32.ofNat L.length := by
      rw [q8 19 x (by omega), (r4.2.2.2 x lx (fun q => q)).1, hsz]
    have fr8 : Fr (LLp x ns) G r8 := (r4.mono (fun _ _ q => q.elim)).trans q4 (fun b hbb => Or.inl hbb)
    refine wp_gI (okf (c := 5) kx8 (by decide)) (wp_pI ⟨okw (c := 5) kx8 (by decide) h.2.1, rfl, rfl⟩ (wp_gI (okf (c := 5) kx8 (by decide)) (wp_pI ⟨okw (c := 5) kx8 (by decide) h.2.1, rfl, rfl⟩ ?_)))
    have e19' : hI (sR r8 21 x p2) 19 x + Int32.ofNat M.length = Int32.ofNat (L.length + M.length) := by
      show hI r8 19 x + _ = _
      rw [e19, i_add]
    rw [e19']
    have fin : ∀ v : Int32, LL γ (sI (sI (sR r8 21 x p2) 19 x (Int32.ofNat (L.length + M.length))) 14 x v) x ns2 (L ++ M) ∧ Fr (LLp x ns) G (sI (sI (sR r8 21 x p2) 19 x (Int32.ofNat (L.length + M.length))) 14 x v) ∧ Wf (sI (sI (sR r8 21 x p2) 19 x (Int32.ofNat (L.length + M.length))) 14 x v) := by
      intro v
      obtain ⟨g1, g2, g3, g4, g5, g6⟩ := q1
      refine ⟨⟨g1, g2, g3, ?_, ?_, ?_, g5, fun i hi => ?_⟩, ((fr8.sR (Or.inl (Or.inl rfl))).sI (Or.inl (Or.inl rfl))).sI (Or.inl (Or.inl rfl)), ((q5.sR).sI).sI⟩
      · rw [hI_sI, if_neg (fun e => absurd e.1 (by decide)), hI_sI, if_pos ⟨rfl, rfl⟩, List.length_append]
      · show hR (sR r8 21 x p2) 20 x = _
        rw [rf (by decide)]; exact g4
      · show hR (sR r8 21 x p2) 21 x = _
        rw [rs, q2]
        by_cases c : ns2.length = 0
        · rw [if_pos c, nd_out (by omega)]
        · rw [if_neg c]
      · obtain ⟨m1, m2, m3, m4, m5⟩ := g6 i hi
        refine ⟨m1, m2, ?_, ?_, ?_⟩
        · show hR (sR r8 21 x p2) 84 _ = _
          rw [rf (by decide)]; exact m3
        · show hR (sR r8 21 x p2) 85 _ = _
          rw [rf (by decide)]; exact m4
        · show hR (sR r8 21 x p2) 86 _ = _
          rw [rf (by decide)]; exact m5
    have e1 := hS_sI (sI (sR r8 21 x p2) 19 x (Int32.ofNat (L.length + M.length))) 14 x
    rw [show ∀ g : AH, rtN .boolean (1 : Int32) g = some (1, g) from fun _ => rfl]
    refine wp_some ?_
    rw [show ∀ g : AH, rtN .boolean (1 : Int32) g = some (1, g) from fun _ => rfl]
    obtain ⟨w1, w2, w3⟩ := fin (hI (sI (sR r8 21 x p2) 19 x (Int32.ofNat (L.length + M.length))) 14 x + 1)
    refine wp_some ⟨ns2, w1, fun b hbb => ?_, w2, w3, ?_, ?_⟩
    · rcases q3 b hbb with e | e
      · exact Or.inl e
      · exact Or.inr (by omega)
    · show hS r8 = _
      omega
    · show hM r8 = _
      omega
end JL2
