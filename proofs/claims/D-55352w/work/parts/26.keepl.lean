/-! lists kept by a step that doesn't write them -/
theorem AL.keep {γ : GP} {P : Nat → Prop} {G G1 : AH} {x : Nat} {L : List Nat} (hw : Wf G) (hF : Fr P G G1) (h : AL γ G x L) (hx : ¬ P x) (hq : γ.2 < hR G 15 x → ¬ P (hR G 15 x)) : AL γ G1 x L ∧ hR G1 15 x = hR G 15 x := by
  obtain ⟨h1, h2, h3, h4, h5, h6, h7, h8, h9⟩ := h
  have lx := (hw.2 x (by omega)).2
  have lq := (hw.2 (hR G 15 x) (by omega)).2
  have sx := hF.2.2.2 x lx hx
  have kx := hF.2.2.1 x lx
  have kq := hF.2.2.1 _ lq
  have e : hR G1 15 x = hR G 15 x := sx.2.1 15
  refine ⟨⟨by rw [kx.1]; exact h1, h2, by rw [sx.1]; exact h3, by rw [e, kq.1]; exact h4, by rw [e, kq.2]; exact h5, by rw [e, kq.2]; exact h6, fun i hi => ?_, fun v hv => ?_, ?_⟩, e⟩
  · rw [e]
    rcases h9 with h | h
    · omega
    · rw [(hF.2.2.2 _ lq (hq h.1)).2.2.2.1]
      exact h7 i hi
  · rw [(hF.2.2.1 v (hw.lt_of (h8 v hv)).2).1]
    exact h8 v hv
  · rw [e, kq.2]; exact h9
theorem LL.keep {γ : GP} {P : Nat → Prop} {G G1 : AH} {x : Nat} {ns L : List Nat} (hw : Wf G) (hF : Fr P G G1) (h : LL γ G x ns L) (hx : ¬ P x) (hq : ∀ a ∈ ns, ¬ P a) : LL γ G1 x ns L := by
  obtain ⟨h1, h2, h3, h4, h5, h6, h7, h8⟩ := h
  have lx := (hw.2 x (by omega)).2
  have sx := hF.2.2.2 x lx hx
  refine ⟨by rw [(hF.2.2.1 x lx).1]; exact h1, h2, h3, by rw [sx.1]; exact h4, by rw [sx.2.1]; exact h5, by rw [sx.2.1]; exact h6, h7, fun i hi => ?_⟩
  obtain ⟨m1, m2, m3, m4, m5⟩ := h8 i hi
  have ln := (hw.2 (nd ns i) (by omega)).2
  have sn := hF.2.2.2 _ ln (hq _ (nd_mem hi))
  exact ⟨by rw [(hF.2.2.1 _ ln).1]; exact m1, m2, by rw [sn.2.1]; exact m3, by rw [sn.2.1]; exact m4, by rw [sn.2.1]; exact m5⟩
theorem AIt.keep {γ : GP} {P : Nat → Prop} {G G1 : AH} {it x i : Nat} (hw : Wf G) (hF : Fr P G G1) (h : AIt γ G it x i) (hit : ¬ P it) (hm : hI G1 14 x = hI G 14 x) : AIt γ G1 it x i := by
  obtain ⟨h1, h2, h3, h4, h5⟩ := h
  have lx := (hw.2 it (by omega)).2
  have sx := hF.2.2.2 it lx hit
  exact ⟨by rw [(hF.2.2.1 it lx).1]; exact h1, h2, by rw [sx.2.1]; exact h3, by rw [sx.1]; exact h4, by rw [sx.1, hm]; exact h5⟩
