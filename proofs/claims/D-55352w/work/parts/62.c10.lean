def capA (G : AH) (x : Nat) : Nat := hL G (hR G 15 x)
def Spl (γ : GP) (G0 : AH) (q1 q4 it x : Nat) (ns : List Nat) (j : Nat) (A B : List Nat) (G : AH) : Prop :=
  Fr (fun a => hS G0 ≤ a) G0 G ∧ Wf G ∧ LIt γ G it x ns j ∧ AL γ G q1 A ∧ AL γ G q4 B ∧ (hR G 15 q1 ≤ γ.2 ∨ hS G0 ≤ hR G 15 q1) ∧ (hR G 15 q4 ≤ γ.2 ∨ hS G0 ≤ hR G 15 q4) ∧ (hR G 15 q1 = hR G 15 q4 → hR G 15 q1 ≤ γ.2)
section C10
variable {γ : GP} {G G1 : AH} {ga : Nat → Nat} {tr : Nat → List Nat} {et : Nat → Nat → Nat} {S : St} {hb : Nat → Prop} {ms : List Ms}
theorem LIt.keepF {P : Nat → Prop} {it x j : Nat} {ns L : List Nat} (t : LIt γ G it x ns j) (h : LL γ G x ns L) (hF : Fr P G G1) (hw : Wf G) (hn : ¬ P it) (hx : ¬ P x) : LIt γ G1 it x ns j := by
  obtain ⟨t1, t2, t3, t4, t5, t6⟩ := t
  have l := hw.k t1 (by decide)
  have s := hF.2.2.2 it l hn
  have sx := hF.2.2.2 x (hw.k h.1 (by decide)) hx
  exact ⟨by rw [(hF.2.2.1 it l).1]; exact t1, t2, by rw [s.2.1]; exact t3, by rw [s.2.1]; exact t4, by rw [s.1]; exact t5, by rw [s.1, sx.1]; exact t6⟩
theorem MsgF.arrv {a : Nat} {m : Ms} (h : MsgF G a m) : (if hK G a = 29 then f_X13_arrives γ a G else if hK G a = 31 then f_X15_arrives γ a G else if hK G a = 30 then f_X14_arrives γ a G else if hK G a = 32 then f_X16_arrives γ a G else none) = some (m.2.2.2, G) := by
  rcases h with h | h | h | h
  · rw [if_pos h.2.1]
    unfold f_X13_arrives
    rw [gI_ok (okf h.2.1 (by decide)), h.2.2.2.2]
  · rw [if_neg (by rw [h.2.1]; decide), if_neg (by rw [h.2.1]; decide), if_neg (by rw [h.2.1]; decide), if_pos h.2.1]
    unfold f_X16_arrives
    rw [gI_ok (okf h.2.1 (by decide)), h.2.2.2.2.1]
  · rw [if_neg (by rw [h.2.1]; decide), if_neg (by rw [h.2.1]; decide), if_pos h.2.1]
    unfold f_X14_arrives
    rw [gI_ok (okf h.2.1 (by decide)), h.2.2.2.2.1]
  · rw [if_neg (by rw [h.2.1]; decide), if_pos h.2.1]
    unfold f_X15_arrives
    rw [gI_ok (okf h.2.1 (by decide)), h.2.2.2.2]
/-- one of the two lists grows -/
theorem Spl.push {G0 : AH} {q1 q4 it x v j : Nat} {ns A B L : List Nat} {β : Type} {Q : β → Prop} {K : AH → Option β} (h : Spl γ G0 q1 q4 it x ns j A B G) (hb : γ.2 < hS G0) (hx : LL γ G0 x ns L) (hw0 : Wf G0) (hq1 : hS G0 ≤ q1) (hq4 : hS G0 ≤ q4) (hne : q1 ≠ q4) (hv : hK G v ∈ stO) (hl : A.length < 1000000)
    (k : ∀ r, Spl γ G0 q1 q4 it x ns j (A ++ [v]) B r → hS G ≤ hS r → hS r ≤ hS G + 1 → hM r + 4 * (capA G q1 + capA G q4) ≤ hM G + 4 * (capA r q1 + capA r q4) → wp (K r) Q) :
    wp (bI (if hK G q1 = 3 then f_J2_add γ q1 v G else none) fun _ g => K g) Q := by
  obtain ⟨a1, a2, a3, a4, a5, a6, a7, a8⟩ := h
  have lx := hw0.k hx.1 (by decide)
  refine wp_bI (wp_ifc a4.1 (wp_mono (AL.push a2 (Nat.lt_of_lt_of_le hb a1.1) a4 hv (by omega)) (fun r hr => ?_)))
  obtain ⟨r1, r2, r3, r4, r5, r6, r7, r8⟩ := hr
  have k1 := a4.1
  have k4 := a5.1
  have k14 := a4.2.2.2.1
  have k44 := a5.2.2.2.1
  have n4 : ¬ ALp γ G q1 q4 := fun e => by
    rcases e with e | e
    · exact hne e.symm
    · rw [e.1, k14] at k4; exact absurd k4 (by decide)
  have n44 : γ.2 < hR G 15 q4 → ¬ ALp γ G q1 (hR G 15 q4) := fun hg e => by
    rcases e with e | e
    · rw [e, k1] at k44; exact absurd k44 (by decide)
    · have := a8 e.1.symm
      rw [← e.1] at this
      omega
  have nit : ¬ ALp γ G q1 it := fun e => by
    have := a3.1
    rcases e with e | e
    · rw [e, k1] at this; exact absurd this (by decide)
    · rw [e.1, k14] at this; exact absurd this (by decide)
  have kp := AL.keep a2 r4 a5 n4 n44
  have hP : ∀ a, ALp γ G q1 a → hS G0 ≤ a := fun a e => by
    rcases e with e | e
    · rw [e]; exact hq1
    · rcases a6 with w | w
      · have := e.2; rw [e.1] at this; omega
      · rw [e.1]; exact w
  have hxx : LL γ G x ns L := hx.keepC hw0 (a1.toC hw0 (fun a l q => by omega)) (fun q => by omega) (fun a ha q => by
    obtain ⟨i, hi, e2⟩ := List.getElem_of_mem ha
    have k := (hx.2.2.2.2.2.2.2 i hi).1
    rw [nd_get hi, e2] at k
    have := hw0.k k (by decide)
    omega)
  have nx : ¬ ALp γ G q1 x := fun e => by have := hP x e; omega
  have s1 := a1.1
  have l4 := a2.k k44 (by decide)
  refine k r.2 ⟨a1.trans r4 (fun a e => Or.inl (hP a e)), r5, a3.keepF hxx r4 a2 nit nx, r2, kp.1, ?_, by rw [kp.2]; exact a7, ?_⟩ r4.1 r6 ?_
  · rcases r3 with e | e
    · rw [e]; exact a6
    · rw [e]; exact Or.inr s1
  · rw [kp.2]
    intro e
    rcases r3 with e3 | e3
    · rw [e3] at e ⊢; exact a8 e
    · rw [e3] at e; omega
  · have e4 : capA r.2 q4 = capA G q4 := by
      unfold capA
      rw [kp.2, (r4.2.2.1 _ l4).2]
    rw [e4]
    have : hM r.2 + 4 * capA G q1 ≤ hM G + 4 * capA r.2 q1 := r8
    omega
theorem Spl.sym {G0 : AH} {q1 q4 it x j : Nat} {ns A B : List Nat} (h : Spl γ G0 q1 q4 it x ns j A B G) : Spl γ G0 q4 q1 it x ns j B A G := by
  obtain ⟨a1, a2, a3, a4, a5, a6, a7, a8⟩ := h
  exact ⟨a1, a2, a3, a5, a4, a7, a6, fun e => by rw [e]; exact a8 e.symm⟩
theorem KS.splitLoop {q1 q4 it : Nat} {ns : List Nat} {Z : List (Nat × Ms)} {G0 : AH} {Q : AH → Prop} {K : AH → Option AH} (h0 : KS γ ga tr et hb S ms G0) (hZ9 : Z.length < 100000) (hx : LL γ G0 (ga 6) ns (Z.map (·.1))) (hz : ∀ z ∈ Z, MsgF G0 z.1 z.2) (hq1 : hS G0 ≤ q1) (hq4 : hS G0 ≤ q4) (hne : q1 ≠ q4) (hit : hS G0 ≤ it) (n : Nat) :
    ∀ (j : Nat) (A B : List Nat) (G : AH), Z.length - j < n → j ≤ Z.length → A.length ≤ j → B.length ≤ j → Spl γ G0 q1 q4 it (ga 6) ns j A B G →
    (∀ r, Spl γ G0 q1 q4 it (ga 6) ns Z.length (A ++ ((Z.drop j).filter (fun z => isNow S z.2)).map (·.1)) (B ++ ((Z.drop j).filter (fun z => !isNow S z.2)).map (·.1)) r → hS r ≤ hS G + (Z.length - j) → hM r + 4 * (capA G q1 + capA G q4) ≤ hM G + 4 * (capA r q1 + capA r q4) → wp (K r) Q) →
    wp (f_X2_allArrive_L24 γ (ga 1) q1 q4 it K n G) Q := by
  have hlt := h0.2.1.lt
  have hw0 := h0.1
  have hlen : (Z.map (·.1)).length = Z.length := List.length_map _
  induction n with
  | zero => intro j A B G hk; exact absurd hk (Nat.not_lt_zero _)
  | succ n ih =>
    intro j A B G hn hj hA hB h kk
    obtain ⟨a1, a2, a3, a4, a5, a6, a7, a8⟩ := h
    have hF0 : Fc (fun a => hS G0 ≤ a) G0 G := a1.toC hw0 (fun a l q => by omega)
    have hxx : LL γ G (ga 6) ns (Z.map (·.1)) := hx.keepC hw0 hF0 (fun q => by have := hw0.k hx.1 (by decide); omega) (fun a ha q => by
      obtain ⟨i, hi, e2⟩ := List.getElem_of_mem ha
      have k := (hx.2.2.2.2.2.2.2 i hi).1
      rw [nd_get hi, e2] at k
      have := hw0.k k (by decide)
      omega)
    unfold f_X2_allArrive_L24
    rw [dsp13 a3.1, a3.hasNext hxx (by rw [hlen]; exact hj) (by rw [hlen]; omega), bI_some]
    by_cases c : j = (Z.map (·.1)).length
    · rw [if_pos c, if_pos rfl]
      have cj : j = Z.length := by rw [hlen] at c; exact c
      have k2 := kk G
      rw [cj, List.drop_length] at k2
      rw [cj] at a3
      exact k2 (by rw [List.filter_nil, List.filter_nil, List.map_nil, List.append_nil, List.append_nil]; exact ⟨a1, a2, a3, a4, a5, a6, a7, a8⟩) (Nat.le_add_right _ _) (Nat.le_refl _)
    · rw [if_neg c, if_neg (by decide), dsp13 a3.1]
      have hj2 : j < Z.length := by rw [hlen] at c; omega
      have ez : Z.drop j = Z[j] :: Z.drop (j + 1) := List.drop_eq_getElem_cons hj2
      have en : nd (Z.map (·.1)) j = (Z[j]).1 := by
        rw [nd_get (by rw [hlen]; exact hj2), List.getElem_map]
      refine wp_bR (wp_mono (LIt.next a2 hxx a3 (by rw [hlen]; exact hj2) (by rw [hlen]; omega)) (fun r hr => ?_))
      obtain ⟨r1, r2, r3, r4, r5, r6, r7⟩ := hr
      rw [r1, en]
      have mf0 := hz _ (List.getElem_mem hj2)
      have f1 : Fr (fun a => hS G0 ≤ a) G0 r.2 := a1.trans r4 (fun a e => Or.inl (by rw [e]; exact hit))
      have hFr : Fc (fun a => hS G0 ≤ a) G0 r.2 := f1.toC hw0 (fun a l q => by omega)
      have mz : (Z[j]).1 < hS G0 := by
        have := mf0.k
        exact (hw0.2 _ (by omega)).2
      have mf := mf0.keep hw0 hFr (by omega)
      have hK1 := h0.keepAll r5 hFr (fun a q => q)
      have kq1 : q1 ≠ it := fun e => by have := a4.1; rw [e, a3.1] at this; exact absurd this (by decide)
      have kq4 : q4 ≠ it := fun e => by have := a5.1; rw [e, a3.1] at this; exact absurd this (by decide)
      have ke1 := AL.keep a2 r4 a4 kq1 (fun _ e => by have := a4.2.2.2.1; rw [e, a3.1] at this; exact absurd this (by decide))
      have ke4 := AL.keep a2 r4 a5 kq4 (fun _ e => by have := a5.2.2.2.1; rw [e, a3.1] at this; exact absurd this (by decide))
      have sp : Spl γ G0 q1 q4 it (ga 6) ns (j + 1) A B r.2 := ⟨f1, r5, r2, ke1.1, ke4.1, by rw [ke1.2]; exact a6, by rw [ke4.2]; exact a7, by rw [ke1.2, ke4.2]; exact a8⟩
      have ca1 : capA r.2 q1 = capA G q1 := by
        unfold capA
        rw [ke1.2, (r4.2.2.1 _ (a2.k a4.2.2.2.1 (by decide))).2]
      have ca4 : capA r.2 q4 = capA G q4 := by
        unfold capA
        rw [ke4.2, (r4.2.2.1 _ (a2.k a5.2.2.2.1 (by decide))).2]
      have hvO : hK r.2 (Z[j]).1 ∈ stO := by
        have := mf.in4
        have H : ∀ c ∈ [29, 30, 31, 32], c ∈ stO := by decide
        exact H _ this
      refine wp_gC (Or.inr mf.in4) ?_
      rw [mf.arrv, bI_some, gI_ok (okf hK1.isK (by decide)), hK1.k1.2.2.2.2.2.1]
      have hs6 : hS r.2 = hS G := r6
      have hm7 : hM r.2 = hM G := r7
      by_cases cn : (Z[j]).2.2.2.2 = sg S 0
      · rw [if_pos cn]
        have ei : isNow S (Z[j]).2 = true := decide_eq_true cn
        refine sp.push hlt hx hw0 hq1 hq4 hne hvO (by omega) (fun r8 s8 g1 g2 g3 => ?_)
        refine ih (j + 1) _ _ r8 (by omega) (by omega) (by rw [List.length_append]; show A.length + 1 ≤ _; omega) (by omega) s8 (fun r9 s9 g4 g5 => kk r9 ?_ (by omega) (by rw [ca1, ca4] at g3; omega))
        rw [ez, List.filter_cons, if_pos ei, List.filter_cons, if_neg (by rw [ei]; decide), List.map_cons]
        rw [List.append_assoc] at s9
        exact s9
      · rw [if_neg cn]
        have ei : isNow S (Z[j]).2 = false := decide_eq_false cn
        refine sp.sym.push hlt hx hw0 hq4 hq1 hne.symm hvO (by omega) (fun r8 s8 g1 g2 g3 => ?_)
        refine ih (j + 1) _ _ r8 (by omega) (by omega) (by omega) (by rw [List.length_append]; show B.length + 1 ≤ _; omega) s8.sym (fun r9 s9 g4 g5 => kk r9 ?_ (by omega) (by rw [ca1, ca4] at g3; omega))
        rw [ez, List.filter_cons, if_neg (by rw [ei]; decide), List.filter_cons, if_pos (by rw [ei]; rfl), List.map_cons]
        rw [List.append_assoc] at s9
        exact s9
end C10
