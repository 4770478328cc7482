theorem agr_of {T2 : List Nat} {C : AH} {i : Nat} (h : agr T2 C i = true) {a : Nat} (ha : hK (mk T2) a ≠ 0) : hK C (rρ i a) = hK (mk T2) a ∧ (∀ f, f ∈ tfI (hK (mk T2) a) → hI (mk T2) f a = hI C f (rρ i a)) ∧ (∀ f, f ∈ tfR (hK (mk T2) a) → Dm (hK (mk T2)) (hR (mk T2) f a) ∧ hR C f (rρ i a) = rρ i (hR (mk T2) f a)) := by
  have hl : a < 26 := by
    rcases Nat.lt_or_ge a 26 with q | q
    · exact q
    · exact absurd (mk_0 q) ha
  unfold agr at h
  have h1 := List.all_eq_true.mp h a (List.mem_range.mpr hl)
  rcases Bool.or_eq_true_iff.mp h1 with h2 | h2
  · exact absurd (eq_of_beq h2) ha
  · obtain ⟨h3, h4⟩ := Bool.and_eq_true_iff.mp h2
    obtain ⟨h5, h6⟩ := Bool.and_eq_true_iff.mp h3
    refine ⟨eq_of_beq h5, fun f hf => eq_of_beq (List.all_eq_true.mp h6 f hf), fun f hf => ?_⟩
    obtain ⟨h7, h8⟩ := Bool.and_eq_true_iff.mp (List.all_eq_true.mp h4 f hf)
    refine ⟨?_, eq_of_beq h8⟩
    rcases Bool.or_eq_true_iff.mp h7 with h9 | h9
    · exact Or.inl (eq_of_beq h9)
    · exact Or.inr (bne_iff_ne.mp h9)
section TMp
variable {γ : GP} {G : AH} {x : Nat} {T : List Nat} {m en : Nat → Nat}
theorem TM.put (h : TM γ G x T m en) (hb : γ.2 < hS G) (hc : hK G (γ.1 9) = 107) {i v : Nat} (hi : i < 6) (ht : th T i = false) (hv : hK G v = 22) (hv2 : γ.2 < v) (hv3 : ∀ j, j < 6 → m j ≠ v) :
    wp (f_J28_put γ x (bx γ G i) v G) (fun r => ∃ T2, TM γ r.2 x T2 (u1 m i v) (u1 en i (hS G)) ∧ (∀ j, j < 6 → th T2 j = (th T j || j == i)) ∧ Fr (fun a => a = x ∨ ∃ j, j < 6 ∧ th T j = true ∧ a = en j) G r.2 ∧ (∀ a f, a < hS G → f ∉ [69, 70, 97, 98, 99, 100, 101] → hR r.2 f a = hR G f a) ∧ Wf r.2 ∧ hS r.2 = hS G + 1 ∧ hM r.2 = hM G + cInst 23) := by
  have h' := h
  obtain ⟨hT, ha, φ, R, p7, pk, pv⟩ := h
  have c := h'.chk.2 i hi ht
  unfold chkP at c
  have k11 : hK (mk T) (i + 11) = 0 := by rw [mk_22 hi, ht]; rfl
  have R1 := R.val (c := i + 11) (v := v) k11 (by omega) (by show i + 11 < 26; omega) hv hv2 (fun a e => by
    rcases mk_cases (T := T) (a := a) (by rw [e]; decide) with ⟨j, _, _, k⟩ | ⟨_, k⟩ | ⟨j, hj, tj, ej, _⟩ | ⟨j, _, _, _, k⟩
    · rw [e] at k; exact absurd k (by decide)
    · rw [e] at k; exact absurd k (by decide)
    · rw [ej, (pv j hj tj).1]; exact hv3 j hj
    · rw [e] at k; exact absurd k (by decide))
  have hu : ∀ a, a ≠ i + 11 → u1 φ (i + 11) v a = φ a := fun a q => if_neg q
  have hus : u1 φ (i + 11) v (i + 11) = v := if_pos rfl
  have hk : ∀ a, a ≠ i + 11 → u1 (hK (mk T)) (i + 11) 22 a = hK (mk T) a := fun a q => if_neg q
  have S := s_put R1 hb (x := 7) (y := x) (k := i + 1) (k1 := bx γ G i) (v := i + 11) (v1 := v) (by rw [hu 7 (by omega)]; exact p7.symm) (Or.inr (by rw [hk 7 (by omega), show hK (mk T) 7 = 15 from rfl]; decide))
    (by rw [hu _ (by omega)]; exact (pk i hi).symm) (Or.inr (by rw [hk _ (by omega), mk_12 hi]; decide)) hus.symm (Or.inr (by rw [show u1 (hK (mk T)) (i + 11) 22 (i + 11) = 22 from if_pos rfl]; decide))
  have ec : cpt T i = f_J28_put cγ 7 (i + 1) (i + 11) (sK (mk T) (i + 11) 22) := rfl
  cases er : cpt T i with
  | none => rw [er] at c; cases c
  | some r =>
    rw [er] at c
    rw [ec] at er
    obtain ⟨r', e', o⟩ := S r er
    have c' : (hS r.2 == 27 && RS.contains (snp r.2 T i) && agr (snp r.2 T i) r.2 i && (List.range 6).all (fun j => th (snp r.2 T i) j == (th T j || j == i))) = true := c
    obtain ⟨c1, c2⟩ := Bool.and_eq_true_iff.mp c'
    obtain ⟨c3, c4⟩ := Bool.and_eq_true_iff.mp c1
    obtain ⟨c5, c6⟩ := Bool.and_eq_true_iff.mp c3
    have c27 := eq_of_beq c5
    have hR2 : snp r.2 T i ∈ RS := List.contains_iff_mem.mp c6
    have hth : ∀ j, j < 6 → th (snp r.2 T i) j = (th T j || j == i) := fun j hj => eq_of_beq (List.all_eq_true.mp c2 j (List.mem_range.mpr hj))
    rcases o with o | o
    · have oK := o.1
      have R2 := o.ren (ρ := rρ i) (kd1 := hK (mk (snp r.2 T i))) (C1 := mk (snp r.2 T i)) (s2 := 26) (by unfold rρ; rw [if_neg (by omega)]) (fun a b hda hdb e => by
          have la : a < 26 := by
            rcases hda with q | q
            · omega
            · rcases Nat.lt_or_ge a 26 with w | w
              · exact w
              · exact absurd (mk_0 w) q
          have lb : b < 26 := by
            rcases hdb with q | q
            · omega
            · rcases Nat.lt_or_ge b 26 with w | w
              · exact w
              · exact absurd (mk_0 w) q
          unfold rρ at e
          by_cases x1 : a = 20 + i
          · by_cases x2 : b = 20 + i
            · omega
            · rw [if_pos x1, if_neg x2] at e; omega
          · by_cases x2 : b = 20 + i
            · rw [if_neg x1, if_pos x2] at e; omega
            · rw [if_neg x1, if_neg x2] at e; exact e)
        (fun a q => by rw [← oK]; exact (agr_of c4 q).1)
        (fun a f hf => (agr_of c4 (fun q => tfI_0 (by rw [q] at hf; exact hf))).2.1 f hf)
        (fun a f hf => (agr_of c4 (fun q => tfR_0 (by rw [q] at hf; exact hf))).2.2 f hf)
        (fun a q _ => by
          unfold rρ
          split
          · omega
          · exact q) rfl rfl (by decide) (fun a q => mk_0 q)
      obtain ⟨f8, f9, f10, f11⟩ : (Fr _ G r'.2 ∧ ∀ a f, a < hS G → f ∉ [69, 70, 97, 98, 99, 100, 101] → hR r'.2 f a = hR G f a) ∧ Wf r'.2 ∧ hS r'.2 = hS G + 1 ∧ hM r'.2 = hM G + cInst 23 := ⟨R2.2.2.2.2.2.2.2.1, R2.2.2.2.2.2.2.2.2.1, R2.2.2.2.2.2.2.2.2.2.1, R2.2.2.2.2.2.2.2.2.2.2.1⟩
      have hbx : ∀ j, j < 6 → bx γ r'.2 j = bx γ G j := by
        intro j hj
        have w := h'.at0.2.2.2.2
        have hl := w.2 (γ.1 9) (by rw [hc]; decide)
        have hs := f8.1.2.2.2 (γ.1 9) hl.2 (by
          intro hp
          rcases hp with hp | hp
          · rcases hp with hp | ⟨q, hq, tq, eq⟩
            · have := h'.at0.1
              rw [← hp, hc] at this
              exact absurd this (by decide)
            · have := (h'.ent hq tq).1
              rw [← eq, hc] at this
              exact absurd this (by decide)
          · have : γ.1 9 = hS G := hp
            omega)
        show hQ r'.2 (γ.1 9) (j + 128) = hQ G (γ.1 9) (j + 128)
        rw [hs.2.2.2.1]
      have z1 : ∀ j, j < 6 → u1 (u1 φ (i + 11) v) 26 (hS G) (rρ i (j + 1)) = φ (j + 1) := fun j hj => by
        rw [show rρ i (j + 1) = j + 1 from if_neg (by omega), show u1 (u1 φ (i + 11) v) 26 (hS G) (j + 1) = u1 φ (i + 11) v (j + 1) from if_neg (by omega), hu _ (by omega)]
      have z7 : u1 (u1 φ (i + 11) v) 26 (hS G) (rρ i 7) = x := by
        rw [show rρ i 7 = 7 from if_neg (by omega), show u1 (u1 φ (i + 11) v) 26 (hS G) 7 = u1 φ (i + 11) v 7 from if_neg (by omega), hu _ (by omega), p7]
      have zv : ∀ j, j < 6 → th (snp r.2 T i) j = true → u1 (u1 φ (i + 11) v) 26 (hS G) (rρ i (j + 11)) = u1 m i v j := fun j hj tj => by
        rw [show rρ i (j + 11) = j + 11 from if_neg (by omega), show u1 (u1 φ (i + 11) v) 26 (hS G) (j + 11) = u1 φ (i + 11) v (j + 11) from if_neg (by omega)]
        by_cases e : j = i
        · rw [e, hus]; exact (if_pos rfl).symm
        · rw [hu _ (by omega)]
          rw [hth j hj, show (j == i) = false from beq_eq_false_iff_ne.mpr e, Bool.or_false] at tj
          rw [(pv j hj tj).1]; exact (if_neg e).symm
      have ze : ∀ j, j < 6 → th (snp r.2 T i) j = true → u1 (u1 φ (i + 11) v) 26 (hS G) (rρ i (20 + j)) = u1 en i (hS G) j := fun j hj tj => by
        by_cases e : j = i
        · rw [e, show rρ i (20 + i) = 26 from if_pos rfl, show u1 (u1 φ (i + 11) v) 26 (hS G) 26 = hS G from if_pos rfl]; exact (if_pos rfl).symm
        · rw [show rρ i (20 + j) = 20 + j from if_neg (by omega), show u1 (u1 φ (i + 11) v) 26 (hS G) (20 + j) = u1 φ (i + 11) v (20 + j) from if_neg (by omega), hu _ (by omega)]
          rw [hth j hj, show (j == i) = false from beq_eq_false_iff_ne.mpr e, Bool.or_false] at tj
          rw [(pv j hj tj).2]; exact (if_neg e).symm
      refine ⟨r', e', snp r.2 T i, ⟨hR2, fun j hj tj => ?_, (fun a => u1 (u1 φ (i + 11) v) 26 (hS G) (rρ i a)), ?_, z7, fun j hj => by rw [hbx j hj, ← pk j hj]; exact z1 j hj, fun j hj tj => ⟨zv j hj tj, ze j hj tj⟩⟩, hth, f8.1.mono (fun a hl hp => ?_), f8.2, f9, f10, f11⟩
      · rw [hth j hj] at tj
        have t1 := Bool.or_eq_false_iff.mp tj
        have t2 := beq_eq_false_iff_ne.mp t1.2
        have := ha j hj t1.1
        exact ⟨by rw [show u1 m i v j = m j from if_neg t2]; exact this.1, by rw [show u1 en i (hS G) j = en j from if_neg t2]; exact this.2⟩
      · rw [f10, f11]
        refine R2.rebase (fun a h6 hka => ?_)
        rcases mk_cases (T := snp r.2 T i) (a := a) (by omega) with ⟨j, _, _, k⟩ | ⟨e7, k⟩ | ⟨j, hj, tj, ej, k⟩ | ⟨j, hj, tj, ej, k⟩
        · omega
        · rw [e7]; exact Or.inl z7
        · omega
        · rw [ej]; exact Or.inr ⟨j, hj, tj, ze j hj tj⟩
      · rcases hp with hp | hp
        · exact hp
        · have : a = hS G := hp
          omega
    · rw [c27] at o
      exact absurd (show (27 : Nat) = 26 from o) (by decide)
end TMp
