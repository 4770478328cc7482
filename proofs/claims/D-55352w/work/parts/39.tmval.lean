section TMv
variable {γ : GP} {G : AH} {x : Nat} {T : List Nat} {m en : Nat → Nat}
theorem TM.valIt {β : Type} {Q : β → Prop} {K : Nat → AH → Option β} {ks : Nat} (t2 : TM γ G x T m en) (hb2 : γ.2 < hS G) (hc : γ.1 9 ≤ γ.2 ∧ hK G (γ.1 9) = 107 ∧ ∀ i, i < 6 → bx γ G i ≤ γ.2) (k1 : hK G ks = 26) (k2 : hR G 105 ks = x)
    (k : ∀ G1, TIt γ G1 (hS G) x en T 0 18 → TM γ G1 x T m en → Fc (fun _ => False) G G1 → Wf G1 → hS G1 = hS G + 1 → hM G1 = hM G + 4 → wp (K (hS G) G1) Q) :
    wp (bR (if hK G ks = 26 then f_J42_iterator γ ks G else none) K) Q := by
  have w2 := t2.at0.2.2.2.2
  have b1 := t2.at0.1
  have lx2 := (w2.2 x (by rw [b1]; decide)).2
  have lk2 := (w2.2 ks (by rw [k1]; decide)).2
  have hn0 : hS G ≠ 0 := by omega
  have hKx : hK (nO G 18 (cInst 18)) x = 15 := by rw [hK_nO, if_neg (by omega)]; exact b1
  have hKs : hK (nO G 18 (cInst 18)) ks = 26 := by rw [hK_nO, if_neg (by omega)]; exact k1
  have hRs : hR (nO G 18 (cInst 18)) 105 ks = x := by rw [hR_nO, if_neg (by omega)]; exact k2
  have fn : Fr (fun _ => False) G (nO G 18 (cInst 18)) := (Fr.refl _ _).nO
  have tn : TM γ (nO G 18 (cInst 18)) x T m en := t2.keepC w2.nO (fn.toC w2 (fun _ _ q => q.elim)) (fun _ q => q.elim) hc (fun q => q) (fun _ _ _ q => q)
  refine wp_bR (wp_ifc k1 ?_)
  unfold f_J42_iterator
  refine wp_mO (wp_gR (okf hKs (by decide)) (wp_gR (okf hKs (by decide)) ?_))
  rw [hRs, if_pos hKx, tn.first, bR_some, if_pos hn0]
  unfold f_J32_init
  refine wp_bV (wp_bV ?_)
  rw [if_pos hn0]
  refine wp_of_bind (TM.mkIt (Or.inr rfl) t2 hb2 hc (K := some) (Q := fun r => wp (some r) fun r => wp (some (hS G, r)) fun r => wp (K r.1 r.2) Q) (fun G1 q1 q2 q3 q4 q5 q6 => wp_some (wp_some (wp_some (k G1 q1 q2 q3 q4 q5 q6)))))
/-- values() -/
theorem TM.values (h : TM γ G x T m en) (hv : VwOK G x) (hb : γ.2 < hS G) (hc : γ.1 9 ≤ γ.2 ∧ hK G (γ.1 9) = 107 ∧ ∀ i, i < 6 → bx γ G i ≤ γ.2) : wp (f_J28_values γ x G) (fun r => hK r.2 r.1 = 26 ∧ hR r.2 105 r.1 = x ∧ TM γ r.2 x T m en ∧ Fc (fun _ => False) G r.2 ∧ Wf r.2 ∧ hS r.2 ≤ hS G + 1 ∧ hM r.2 ≤ hM G + 1) := by
  obtain ⟨a1, a2, a3, a4, hw⟩ := h.at0
  have lx := (hw.2 x (by rw [a1]; decide)).2
  unfold f_J28_values
  refine wp_gR (okf a1 (by decide)) (wp_ite (fun e0 => ?_) (fun e0 => ?_))
  · have hKi : hK (nO G 26 (cInst 26)) (hS G) = 26 := by rw [hK_nO, if_pos rfl]
    have hKx : hK (nO G 26 (cInst 26)) x = 15 := by rw [hK_nO, if_neg (by omega)]; exact a1
    have hn0 : hS G ≠ 0 := by omega
    refine wp_mO (wp_bV ?_)
    rw [if_pos hn0]
    unfold f_J42_init
    refine wp_pR (okw (f := 105) hKi (by decide) hb) ?_
    have f0 : Fr (fun _ => False) G (sR (nO G 26 (cInst 26)) 105 (hS G) x) := ((Fr.refl _ _).nO).sR (Or.inr (Nat.le_refl _))
    have w0 : Wf (sR (nO G 26 (cInst 26)) 105 (hS G) x) := (hw.nO.sR)
    have v0 : hR (sR (nO G 26 (cInst 26)) 105 (hS G) x) 105 (hS G) = x := rs
    have s0 : hS (sR (nO G 26 (cInst 26)) 105 (hS G) x) = hS G + 1 := rfl
    have m0 : hM (sR (nO G 26 (cInst 26)) 105 (hS G) x) = hM G + 1 := rfl
    have hKi' : hK (sR (nO G 26 (cInst 26)) 105 (hS G) x) (hS G) = 26 := hKi
    have hKx' : hK (sR (nO G 26 (cInst 26)) 105 (hS G) x) x = 15 := hKx
    generalize sR (nO G 26 (cInst 26)) 105 (hS G) x = G2 at *
    refine wp_bV ?_
    rw [if_pos hn0]
    unfold f_J0_init
    rw [if_pos hn0]
    refine wp_some (wp_some ?_)
    refine wp_pR (okw (f := 68) (c := 15) hKx' (by decide) a2) (wp_some ?_)
    have fz : Fr (fun _ => False) (zap G) (zap (sR G2 68 x (hS G))) := by
      rw [zap_sR (Or.inl rfl)]; exact f0.zp
    have fc : Fc (fun _ => False) G (sR G2 68 x (hS G)) := by
      refine VwOK.toC (x' := x) hw fz (fun y hy hne => ⟨?_, ?_⟩) (fun hv => ⟨?_, Or.inr ?_⟩)
      · have ly := (hw.2 y (by rw [hy]; decide)).2
        rw [hR_sR, if_neg (fun e => hne e.2)]
        exact (f0.2.2.2 y ly (fun q => q)).2.1 74
      · have ly := (hw.2 y (by rw [hy]; decide)).2
        rw [hR_sR, if_neg (fun e => hne e.2)]
        exact (f0.2.2.2 y ly (fun q => q)).2.1 68
      · rw [rf (by decide), (f0.2.2.2 x lx (fun q => q)).2.1 74]
        rcases hv.1 with q | q
        · exact Or.inl q
        · have l1 := (hw.2 _ (show hK G (hR G 74 x) ≠ 0 by rw [q.1]; decide)).2
          refine Or.inr ⟨?_, ?_⟩
          · rw [hK_sR, (f0.2.2.1 _ l1).1]; exact q.1
          · rw [rf (by decide), (f0.2.2.2 _ l1 (fun q => q)).2.1 92]; exact q.2
      · rw [rs, rf (by decide), hK_sR]
        exact ⟨hKi', v0⟩
    have w1 : Wf (sR G2 68 x (hS G)) := w0.sR
    have t1 := h.keepC w1 fc (fun _ q => q.elim) hc (fun q => q) (fun _ _ _ q => q)
    have e1 : hK (sR G2 68 x (hS G)) (hS G) = 26 := by rw [hK_sR]; exact hKi'
    have e2 : hR (sR G2 68 x (hS G)) 105 (hS G) = x := by rw [rf (by decide)]; exact v0
    have e3 : hS (sR G2 68 x (hS G)) ≤ hS G + 1 := by rw [hS_sR]; omega
    have e4 : hM (sR G2 68 x (hS G)) ≤ hM G + 1 := by rw [hM_sR]; omega
    exact ⟨e1, e2, t1, fc, w1, e3, e4⟩
  · rcases hv.2 with q | q
    · exact absurd q e0
    · exact wp_some ⟨q.1, q.2, h, Fc.refl _ _, hw, Nat.le_succ _, Nat.le_succ _⟩
/-- the keys from k on -/
def ks (T : List Nat) (k : Nat) : List Nat := (List.range 6).filter (fun c => decide (k ≤ c) && th T c)
theorem ks_none {k : Nat} (h : ¬ nx T k < 6) : ks T k = [] := by
  refine List.filter_eq_nil_iff.mpr (fun c hc => ?_)
  have hc6 := List.mem_range.mp hc
  intro hh
  obtain ⟨h1, h2⟩ := Bool.and_eq_true_iff.mp hh
  have h1' := of_decide_eq_true h1
  unfold nx at h
  have : c = 0 ∨ c = 1 ∨ c = 2 ∨ c = 3 ∨ c = 4 ∨ c = 5 := by omega
  rcases this with e | e | e | e | e | e <;> subst e <;> (repeat' split at h) <;> first | omega | simp_all
theorem nx_min {k c : Nat} (hk : k ≤ c) (hc : c < 6) (ht : th T c = true) : nx T k ≤ c := by
  unfold nx
  have : c = 0 ∨ c = 1 ∨ c = 2 ∨ c = 3 ∨ c = 4 ∨ c = 5 := by omega
  rcases this with e | e | e | e | e | e <;> subst e <;> (repeat' split) <;> first | omega | simp_all
theorem ks_cons {k : Nat} (h : nx T k < 6) : ks T k = nx T k :: ks T (nx T k + 1) := by
  have hm := nx_lt h
  have hmin : ∀ c, k ≤ c → c < 6 → th T c = true → nx T k ≤ c := fun c a b d => nx_min a b d
  generalize nx T k = j at *
  have e1 : ks T k = (List.range 6).filter (fun c => decide (j ≤ c) && th T c) := by
    refine List.filter_congr (fun c hc => ?_)
    have hc6 := List.mem_range.mp hc
    cases ht : th T c with
    | false => rw [Bool.and_false, Bool.and_false]
    | true =>
      rw [Bool.and_true, Bool.and_true]
      exact decide_eq_decide.mpr ⟨fun q => hmin c q hc6 ht, fun q => Nat.le_trans hm.2 q⟩
  rw [e1]
  unfold ks
  have : j = 0 ∨ j = 1 ∨ j = 2 ∨ j = 3 ∨ j = 4 ∨ j = 5 := by omega
  have r6 : List.range 6 = [0, 1, 2, 3, 4, 5] := rfl
  rw [r6]
  rcases this with e | e | e | e | e | e <;> subst e <;> simp [List.filter_cons, hm.1]
end TMv
