section JL3
variable {γ : GP} {G : AH} {x : Nat} {L ns : List Nat}
theorem clearLoop {Q : AH → Prop} {K : AH → Option AH} (hnd : ns.Nodup) (n : Nat) : ∀ (j : Nat) (G : AH), ns.length - j < n → j ≤ ns.length → Wf G → (∀ i, j ≤ i → i < ns.length → hK G (nd ns i) = 19 ∧ γ.2 < nd ns i ∧ hR G 85 (nd ns i) = nd ns (i + 1)) →
    (∀ r, Fr (fun a => a ∈ ns) G r → Wf r → hS r = hS G → hM r = hM G → wp (K r) Q) → wp (f_J4_clear_L5 γ x K n (nd ns j) G) Q := by
  induction n with
  | zero => intro j G hk; exact absurd hk (Nat.not_lt_zero _)
  | succ n ih =>
    intro j G hn hj hw h k
    unfold f_J4_clear_L5
    by_cases c : j = ns.length
    · rw [if_pos (nd_out (by omega))]
      exact k G (Fr.refl _ _) hw rfl rfl
    · have hj2 : j < ns.length := by omega
      obtain ⟨m1, m2, m3⟩ := h j (Nat.le_refl _) hj2
      rw [if_neg (by omega), gR_ok (okf m1 (by decide)), m3]
      refine wp_pR (okw m1 (by decide) m2) (wp_pR (okw (c := 19) m1 (by decide) m2) (wp_pR (okw (c := 19) m1 (by decide) m2) ?_))
      have f3 : Fr (fun a => a ∈ ns) G (sR (sR (sR G 84 (nd ns j) 0) 85 (nd ns j) 0) 86 (nd ns j) 0) := (((Fr.refl _ _).sR (Or.inl (nd_mem hj2))).sR (Or.inl (nd_mem hj2))).sR (Or.inl (nd_mem hj2))
      refine ih (j + 1) _ (by omega) (by omega) ((hw.sR).sR).sR (fun i hi hi2 => ?_) (fun r q1 q2 q3 q4 => k r (f3.trans q1 (fun _ q => Or.inl q)) q2 q3 q4)
      obtain ⟨p1, p2, p3⟩ := h i (by omega) hi2
      refine ⟨p1, p2, ?_⟩
      have hne : nd ns i ≠ nd ns j := fun e => by
        have := nd_inj hnd hi2 hj2 e
        omega
      rw [rf (by decide), ra hne, rf (by decide)]; exact p3
theorem LL.clear (hw : Wf G) (h : LL γ G x ns L) (hL9 : L.length < 10000000) : wp (f_J4_clear γ x G) (fun r => LL γ r x [] [] ∧ Fr (LLp x ns) G r ∧ Wf r ∧ hS r = hS G ∧ hM r = hM G) := by
  obtain ⟨h1, h2, h3, h4, h5, h6, h7, h8⟩ := h
  have lx := hw.k h1 (by decide)
  have hnx : x ∉ ns := fun e => by
    obtain ⟨i, hi, e2⟩ := List.getElem_of_mem e
    have := (h8 i hi).1
    rw [nd_get hi, e2, h1] at this
    exact absurd this (by decide)
  unfold f_J4_clear
  rw [gR_ok (okf h1 (by decide)), h5]
  refine clearLoop h7 FU 0 G (by show _ < 4294967296; omega) (Nat.zero_le _) hw (fun i _ hi => ⟨(h8 i hi).1, (h8 i hi).2.1, (h8 i hi).2.2.2.1⟩) (fun r f w s m => ?_)
  have kx : hK r x = 5 := by rw [(f.2.2.1 x lx).1]; exact h1
  have f' : Fr (LLp x ns) G r := f.mono (fun a _ q => Or.inr q)
  refine wp_pR (okw kx (by decide) h2) (wp_pR (okw (c := 5) kx (by decide) h2) (wp_pI ⟨okw (c := 5) kx (by decide) h2, rfl, rfl⟩ (wp_gI (okf (c := 5) kx (by decide)) (wp_pI ⟨okw (c := 5) kx (by decide) h2, rfl, rfl⟩ ?_))))
  have fin : ∀ v : Int32, LL γ (sI (sI (sR (sR r 21 x 0) 20 x 0) 19 x 0) 14 x v) x [] [] ∧ Fr (LLp x ns) G (sI (sI (sR (sR r 21 x 0) 20 x 0) 19 x 0) 14 x v) ∧ Wf (sI (sI (sR (sR r 21 x 0) 20 x 0) 19 x 0) 14 x v) := by
    intro v
    refine ⟨⟨kx, h2, rfl, ?_, ?_, ?_, List.nodup_nil, fun i hi => absurd hi (Nat.not_lt_zero _)⟩, (((f'.sR (Or.inl (Or.inl rfl))).sR (Or.inl (Or.inl rfl))).sI (Or.inl (Or.inl rfl))).sI (Or.inl (Or.inl rfl)), (((w.sR).sR).sI).sI⟩
    · rw [hI_sI, if_neg (fun e => absurd e.1 (by decide)), hI_sI, if_pos ⟨rfl, rfl⟩]; rfl
    · show hR (sR (sR r 21 x 0) 20 x 0) 20 x = 0
      rw [rs]
    · show hR (sR (sR r 21 x 0) 20 x 0) 21 x = 0
      rw [rf (by decide), rs]
  obtain ⟨w1, w2, w3⟩ := fin (hI (sI (sR (sR r 21 x 0) 20 x 0) 19 x 0) 14 x + 1)
  exact wp_some ⟨w1, w2, w3, s, m⟩
end JL3
