section C22
variable {γ : GP} {G G1 : AH} {ga : Nat → Nat} {tr : Nat → List Nat} {et : Nat → Nat → Nat} {S : St} {hb : Nat → Prop} {ms : List Ms}
/-- a field of q set to a cell made just before -/
theorem setRef {q f v c : Nat} {β : Type} {Q : β → Prop} {K : AH → Option β} (hw : Wf G) (hk : hK G q = c) (hf : f ∈ cFl c ∧ c < 37) (hq : γ.2 < q) (k : ∀ r, Fr (fun a => a = q) G r → Wf r → hS r = hS G → hM r = hM G → hR r f q = v → (∀ g, g ≠ f → hR r g q = hR G g q) → (∀ g, hI r g q = hI G g q) → wp (K r) Q) : wp (pR γ G q f v K) Q :=
  wp_pR (okw hk hf hq) (k _ ((Fr.refl _ _).sR (Or.inl rfl)) hw.sR rfl rfl rs (fun g hg => rf hg) (fun _ => rfl))
theorem X3_initF {q : Nat} (hw : Wf G) (hc : Cn γ G) (hk : hK G q = 4) (hq : γ.2 < q) : wp (f_X3_init γ q G) (fun r => hR r 18 q = hS G ∧ hI r 17 q = hI G 17 q ∧ AL γ r (hS G) [] ∧ hR r 15 (hS G) = γ.1 0 ∧ Fr (fun a => a = q) G r ∧ Wf r ∧ hS r = hS G + 1 ∧ hM r = hM G + 3) := by
  have lq := hw.k hk (by decide)
  unfold f_X3_init
  rw [if_pos (show q ≠ 0 by omega)]
  refine wp_mO (wp_bV (wp_mono (newAL hw hc) (fun r1 hr => ?_)))
  obtain ⟨p1, p2, p3, p4, p5, p6⟩ := hr
  have k1 : hK r1 q = 4 := by rw [(p3.2.2.1 q lq).1]; exact hk
  refine setRef p4 k1 (by decide) hq (fun r f w s m e1 e2 e3 => wp_some ?_)
  have le0 : γ.1 0 ≤ γ.2 := hc.le (by decide)
  have a := AL.keep p4 f p1 (by omega) (fun hh => by rw [p2] at hh; omega)
  exact ⟨e1, by rw [e3, (p3.2.2.2 q lq (fun q => q)).1], a.1, by rw [a.2]; exact p2, (p3.mono (fun _ _ q => q.elim)).trans f (fun _ e => Or.inl e), w, by omega, by omega⟩
theorem X2_init {q : Nat} (hw : Wf G) (hc : Cn γ G) (hk : hK G q = 2) (hq : γ.2 < q) :
    wp (f_X2_init γ q G) (fun r => (hR r 8 q = hS G ∧ hR r 9 q = hS G + 1 ∧ hR r 10 q = hS G + 2 ∧ hR r 11 q = hS G + 4 ∧ hI r 12 q = hI G 12 q ∧ hI r 13 q = hI G 13 q) ∧ (AL γ r (hS G) [] ∧ hR r 15 (hS G) = γ.1 0) ∧ (AL γ r (hS G + 1) [] ∧ hR r 15 (hS G + 1) = γ.1 0) ∧ (hK r (hS G + 2) = 4 ∧ hI r 17 (hS G + 2) = 0 ∧ hR r 18 (hS G + 2) = hS G + 3) ∧ (AL γ r (hS G + 3) [] ∧ hR r 15 (hS G + 3) = γ.1 0) ∧ LL γ r (hS G + 4) [] [] ∧ Fr (fun a => a = q) G r ∧ Wf r ∧ hS r = hS G + 5 ∧ hM r = hM G + 15) := by
  have lq := hw.k hk (by decide)
  have hlt := hc.lt
  have le0 : γ.1 0 ≤ γ.2 := hc.le (by decide)
  have ck : ∀ {g : AH}, Fr (fun a => a = q) G g → Cn γ g := fun {g} f => hc.keep (f.toC hw (fun a _ e => by rw [e, hk]; decide)) (fun a e => by rw [e]; exact hq)
  have kk : ∀ {g : AH}, Fr (fun a => a = q) G g → hK g q = 2 := fun {g} f => by rw [(f.2.2.1 q lq).1]; exact hk
  have ak : ∀ {g g1 : AH} {x : Nat}, Wf g → Fr (fun a => a = q) g g1 → AL γ g x [] ∧ hR g 15 x = γ.1 0 → x ≠ q → AL γ g1 x [] ∧ hR g1 15 x = γ.1 0 := fun {g g1 x} w f h hx => by
    have a := AL.keep w f h.1 hx (fun hh => by rw [h.2] at hh; omega)
    exact ⟨a.1, by rw [a.2]; exact h.2⟩
  unfold f_X2_init
  rw [if_pos (show q ≠ 0 by omega)]
  refine wp_mO (wp_bV (wp_mono (newAL hw hc) (fun r1 hr => ?_)))
  obtain ⟨p1, p2, p3, p4, p5, p6⟩ := hr
  have F1 : Fr (fun a => a = q) G r1 := p3.mono (fun _ _ q => q.elim)
  have s1 := p3.2.2.2 q lq (fun q => q)
  refine setRef p4 (kk F1) (by decide) hq (fun r2 f2 w2 s2 m2 e1 e2 e3 => ?_)
  have F2 := F1.trans f2 (fun _ e => Or.inl e)
  have A2 := ak p4 f2 ⟨p1, p2⟩ (by omega)
  refine wp_mO (wp_bV (wp_mono (newAL w2 (ck F2)) (fun r3 hr => ?_)))
  obtain ⟨u1, u2, u3, u4, u5, u6⟩ := hr
  have lq2 : q < hS r2 := by omega
  have F3 : Fr (fun a => a = q) G r3 := F2.trans (u3.mono (fun _ _ q => q.elim)) (fun _ e => Or.inl e)
  have A3 := ak w2 (u3.mono (fun _ _ q => q.elim)) A2 (by omega)
  have s3 := u3.2.2.2 q lq2 (fun q => q)
  refine setRef u4 (kk F3) (by decide) hq (fun r4 f4 w4 s4 m4 g1 g2 g3 => ?_)
  have F4 := F3.trans f4 (fun _ e => Or.inl e)
  have A4 := ak u4 f4 A3 (by omega)
  have B4 := ak u4 f4 ⟨u1, u2⟩ (by omega)
  obtain ⟨n1, n2, n3, n4⟩ := newObj (c := 4) (n := cInst 4) w4
  have c4 := (ck F4).lt
  have F5 : Fr (fun a => a = q) G (nO r4 4 (cInst 4)) := F4.trans (n1.mono (fun _ _ q => q.elim)) (fun _ e => Or.inl e)
  refine wp_mO (wp_bV ?_)
  rw [if_pos n4]
  unfold f_X4_init
  refine wp_bV ?_
  rw [if_pos n4]
  refine wp_mono (X3_initF n2 (ck F5) n3 c4) (fun r5 hr => wp_some ?_)
  obtain ⟨v1, v2, v3, v4, v5, v6, v7, v8⟩ := hr
  rw [hS_nO] at v1 v3 v4 v7
  rw [hM_nO, show cInst 4 = 2 from rfl] at v8
  rw [hI_nO, if_pos rfl] at v2
  have f45 : Fr (fun _ => False) r4 r5 := n1.trans v5 (fun b e => Or.inr (by rw [e]; exact Nat.le_refl _))
  have F6 : Fr (fun a => a = q) G r5 := F4.trans (f45.mono (fun _ _ q => q.elim)) (fun _ e => Or.inl e)
  have A5 := ak w4 (f45.mono (fun _ _ q => q.elim)) A4 (by omega)
  have B5 := ak w4 (f45.mono (fun _ _ q => q.elim)) B4 (by omega)
  have s5 := f45.2.2.2 q (by omega) (fun q => q)
  have kh5 : hK r5 (hS r4) = 4 := by rw [(v5.2.2.1 (hS r4) (Nat.lt_succ_self _)).1]; exact n3
  refine setRef v6 (kk F6) (by decide) hq (fun r6 f6 w6 s6 m6 h1 h2 h3 => ?_)
  have F7 := F6.trans f6 (fun _ e => Or.inl e)
  have A6 := ak v6 f6 A5 (by omega)
  have B6 := ak v6 f6 B5 (by omega)
  have C6 := ak v6 f6 ⟨v3, v4⟩ (by omega)
  have t6 := f6.2.2.2 (hS r4) (by omega) (by omega)
  have kh6 : hK r6 (hS r4) = 4 := by rw [(f6.2.2.1 _ (by omega)).1]; exact kh5
  obtain ⟨o1, o2, o3, o4⟩ := newObj (c := 5) (n := cInst 5) w6
  have c6 := (ck F7).lt
  refine wp_mO (wp_bV ?_)
  rw [if_pos o4]
  refine wp_mono (LL.made o2 o3 c6 (by rw [hR_nO, if_pos rfl]) (by rw [hR_nO, if_pos rfl])) (fun r7 hr => ?_)
  obtain ⟨x1, x2, x3, x4, x5⟩ := hr
  rw [hS_nO] at x4
  rw [hM_nO, show cInst 5 = 4 from rfl] at x5
  have f67 : Fr (fun _ => False) r6 r7 := o1.trans x2 (fun b e => Or.inr (by rw [e]; exact Nat.le_refl _))
  have F8 : Fr (fun a => a = q) G r7 := F7.trans (f67.mono (fun _ _ q => q.elim)) (fun _ e => Or.inl e)
  have A7 := ak w6 (f67.mono (fun _ _ q => q.elim)) A6 (by omega)
  have B7 := ak w6 (f67.mono (fun _ _ q => q.elim)) B6 (by omega)
  have C7 := ak w6 (f67.mono (fun _ _ q => q.elim)) C6 (by omega)
  have s7 := f67.2.2.2 q (by omega) (fun q => q)
  have t7 := f67.2.2.2 (hS r4) (by omega) (fun q => q)
  have kh7 : hK r7 (hS r4) = 4 := by rw [(f67.2.2.1 _ (by omega)).1]; exact kh6
  refine setRef x3 (kk F8) (by decide) hq (fun r8 f8 w8 s8 m8 i1 i2 i3 => wp_some ?_)
  have t8 := f8.2.2.2 (hS r4) (by omega) (by omega)
  have kh8 : hK r8 (hS r4) = 4 := by rw [(f8.2.2.1 _ (by omega)).1]; exact kh7
  have eh : hS r4 = hS G + 2 := by omega
  have e2' : hS r2 = hS G + 1 := by omega
  have el : hS r4 + 1 = hS G + 3 := by omega
  have em : hS r6 = hS G + 4 := by omega
  rw [e2'] at g1 B7
  rw [eh] at v1 v2 h1 t6 t7 t8 kh8
  rw [show hS G + 2 + 1 = hS G + 3 from rfl] at v1
  rw [el] at C7
  rw [em] at x1 i1
  refine ⟨⟨?_, ?_, ?_, i1, ?_, ?_⟩, ak x3 f8 A7 (by omega), ak x3 f8 B7 (by omega), ⟨kh8, ?_, ?_⟩, ak x3 f8 C7 (by omega), ?_, F8.trans f8 (fun _ e => Or.inl e), w8, by omega, by omega⟩
  · rw [i2 8 (by decide), s7.2.1, h2 8 (by decide), s5.2.1, g2 8 (by decide), s3.2.1, e1]
  · rw [i2 9 (by decide), s7.2.1, h2 9 (by decide), s5.2.1, g1]
  · rw [i2 10 (by decide), s7.2.1, h1]
  · rw [i3, s7.1, h3, s5.1, g3, s3.1, e3, s1.1]
  · rw [i3, s7.1, h3, s5.1, g3, s3.1, e3, s1.1]
  · rw [t8.1, t7.1, t6.1, v2]
  · rw [t8.2.1, t7.2.1, t6.2.1, v1]
  · exact LL.keep x3 f8 x1 (by omega) (fun a ha => by cases ha)
end C22
