/-! LinkedList: an element put at a place -/
def ins (i q : Nat) (ns : List Nat) : List Nat := ns.take i ++ q :: ns.drop i
theorem ins_len {i q : Nat} {ns : List Nat} : (ins i q ns).length = ns.length + 1 := by
  unfold ins
  rw [List.length_append, List.length_cons, List.length_take, List.length_drop]; omega
theorem ins_nd {i q : Nat} {ns : List Nat} (hi : i ≤ ns.length) (k : Nat) : nd (ins i q ns) k = if k < i then nd ns k else if k = i then q else nd ns (k - 1) := by
  unfold nd ins
  rw [List.getD_eq_getElem?_getD, List.getD_eq_getElem?_getD, List.getD_eq_getElem?_getD, List.getElem?_append, List.length_take, Nat.min_eq_left hi]
  by_cases c : k < i
  · rw [if_pos c, if_pos c, List.getElem?_take_of_lt c]
  · rw [if_neg c, if_neg c]
    by_cases c2 : k = i
    · rw [if_pos c2, c2, Nat.sub_self]; rfl
    · rw [if_neg c2, show k - i = (k - i - 1) + 1 from by omega, List.getElem?_cons_succ, List.getElem?_drop, show i + (k - i - 1) = k - 1 from by omega]
theorem ins_nodup {i q : Nat} {ns : List Nat} (h : ns.Nodup) (hq : q ∉ ns) : (ins i q ns).Nodup := by
  have p : (ins i q ns).Perm (q :: ns) := by
    unfold ins
    have := List.perm_middle (a := q) (l₁ := ns.take i) (l₂ := ns.drop i)
    rw [List.take_append_drop] at this
    exact this
  exact p.nodup_iff.mpr (List.nodup_cons.mpr ⟨hq, h⟩)
theorem ins_end {q : Nat} {ns : List Nat} : ins ns.length q ns = ns ++ [q] := by
  unfold ins
  rw [List.take_length, List.drop_length]
theorem LL.before {γ : GP} {G : AH} {x v i : Nat} {ns L : List Nat} (hw : Wf G) (hb : γ.2 < hS G) (h : LL γ G x ns L) (hi : i < L.length) :
    wp (f_J4_linkBefore γ x v (nd ns i) G) (fun r => LL γ r x (ins i (hS G) ns) (ins i v L) ∧ Fr (LLp x ns) G r ∧ Wf r ∧ hS r = hS G + 1 ∧ hM r = hM G + 3) := by
  obtain ⟨h1, h2, h3, h4, h5, h6, h7, h8⟩ := h
  have hx := hw.2 x (by omega)
  have hxq : x ≠ hS G := by omega
  have hnq : ∀ m, m < ns.length → nd ns m ≠ hS G := fun m hm e => by
    have := hw.2 (nd ns m) (by rw [(h8 m hm).1]; decide)
    omega
  have hnx : ∀ m, m < ns.length → nd ns m ≠ x := fun m hm e => by
    have h9 := (h8 m hm).1
    rw [e, h1] at h9
    omega
  have hq0 : hS G ≠ 0 := by omega
  have hi' : i < ns.length := by omega
  have hKq : hK (nO G 19 (cInst 19)) (hS G) = 19 := by rw [hK_nO, if_pos rfl]
  have hKx : hK (nO G 19 (cInst 19)) x = 5 := by rw [hK_nO, if_neg hxq]; exact h1
  have hKn : ∀ m, m < ns.length → hK (nO G 19 (cInst 19)) (nd ns m) = 19 := fun m hm => by rw [hK_nO, if_neg (hnq m hm)]; exact (h8 m hm).1
  obtain ⟨n1, n2, n3, n4, n5⟩ := h8 i hi'
  unfold f_J4_linkBefore
  refine wp_gR (okf n1 (by decide)) (wp_mO (wp_bV (wp_ifc hq0 ?_)))
  rw [n5]
  unfold f_J33_init
  refine wp_ifc hq0 (wp_pR (okw hKq (by decide) hb) (wp_pR (okw (c := 19) hKq (by decide) hb) (wp_pR (okw (c := 19) hKq (by decide) hb) (wp_some (wp_pR (okw (c := 19) (hKn i hi') (by decide) n2) (wp_jn ?_))))))
  have fin : ∀ G6 : AH, hK G6 = hK (nO G 19 (cInst 19)) → hI G6 = hI (nO G 19 (cInst 19)) → Wf G6 → Fr (LLp x ns) G G6 → hS G6 = hS G + 1 → hM G6 = hM G + 3 →
      (hR G6 20 x = nd (ins i (hS G) ns) 0) → hR G6 21 x = nd ns (ns.length - 1) → hR G6 84 (hS G) = v → hR G6 85 (hS G) = nd ns i → hR G6 86 (hS G) = (if i = 0 then 0 else nd ns (i - 1)) →
      (∀ m, m < ns.length → hR G6 84 (nd ns m) = nd L m ∧ hR G6 85 (nd ns m) = (if m + 1 = i then hS G else nd ns (m + 1)) ∧ hR G6 86 (nd ns m) = (if m = i then hS G else if m = 0 then 0 else nd ns (m - 1))) →
      wp (gI G6 x 19 fun v8 => pI γ G6 x 19 (v8 + (1 : Int32)) fun g9 => gI g9 x 14 fun v10 => pI γ g9 x 14 (v10 + (1 : Int32)) fun g11 => (some g11)) (fun r => LL γ r x (ins i (hS G) ns) (ins i v L) ∧ Fr (LLp x ns) G r ∧ Wf r ∧ hS r = hS G + 1 ∧ hM r = hM G + 3) := by
    intro G6 k1 k2 k3 k4 k5 k6 k7 k8 k9 k10 k11 k12
    have kx : hK G6 x = 5 := by rw [k1]; exact hKx
    refine wp_gI (okf kx (by decide)) (wp_pI ⟨okw kx (by decide) h2, rfl, rfl⟩ (wp_gI (okf (c := 5) kx (by decide)) (wp_pI ⟨okw (c := 5) kx (by decide) h2, rfl, rfl⟩ (wp_some ?_))))
    refine ⟨⟨kx, h2, ?_, ?_, k7, ?_, ?_, ?_⟩, (k4.sI (Or.inl (Or.inl rfl))).sI (Or.inl (Or.inl rfl)), (k3.sI).sI, k5, k6⟩
    · rw [ins_len, ins_len, h3]
    · rw [hI_sI, if_neg (fun h => absurd h.1 (by decide)), hI_sI, if_pos ⟨rfl, rfl⟩, k2, hI_nO, if_neg hxq, h4, show (1 : Int32) = Int32.ofNat 1 from rfl, i_add, ins_len]
    · rw [ins_len, Nat.add_sub_cancel, ins_nd (by omega), if_neg (by omega), if_neg (by omega)]
      exact k8
    · refine ins_nodup h7 (fun ha => ?_)
      obtain ⟨m, hm, e2⟩ := List.getElem_of_mem ha
      refine hnq m hm ?_
      rw [nd_get hm, e2]
    · intro k hk
      rw [ins_len] at hk
      rw [ins_nd (by omega) k, ins_nd (by omega) (k + 1)]
      have eL := ins_nd (ns := L) (q := v) (i := i) (by omega) k
      have eP : (if k = 0 then 0 else nd (ins i (hS G) ns) (k - 1)) = (if k = 0 then 0 else if k - 1 < i then nd ns (k - 1) else if k - 1 = i then hS G else nd ns (k - 1 - 1)) := by
        split
        · rfl
        · rw [ins_nd (by omega)]
      rw [eP, eL]
      rcases Nat.lt_trichotomy k i with c | c | c
      · obtain ⟨m1, m2, m3⟩ := k12 k (by omega)
        rw [if_pos c, if_pos c]
        refine ⟨?_, (h8 k (by omega)).2.1, m1, ?_, ?_⟩
        · show hK G6 (nd ns k) = 19
          rw [k1]; exact hKn k (by omega)
        · show hR G6 85 (nd ns k) = _
          rw [m2]
          by_cases e : k + 1 = i
          · rw [if_pos e, if_neg (by omega), if_pos e]
          · rw [if_neg e, if_pos (by omega)]
        · show hR G6 86 (nd ns k) = _
          rw [m3, if_neg (by omega)]
          split
          · rfl
          · rw [if_pos (by omega)]
      · rw [if_neg (by omega), if_pos c, if_neg (by omega), if_pos c, if_neg (by omega), if_neg (by omega)]
        refine ⟨?_, hb, k9, ?_, ?_⟩
        · show hK G6 (hS G) = 19
          rw [k1]; exact hKq
        · show hR G6 85 (hS G) = _
          rw [k10, c, Nat.add_sub_cancel]
        · show hR G6 86 (hS G) = _
          rw [k11, c]
          split
          · rfl
          · rw [if_pos (by omega)]
      · obtain ⟨m1, m2, m3⟩ := k12 (k - 1) (by omega)
        rw [if_neg (by omega), if_neg (by omega), if_neg (by omega), if_neg (by omega), if_neg (by omega), if_neg (by omega), Nat.add_sub_cancel]
        refine ⟨?_, (h8 (k - 1) (by omega)).2.1, m1, ?_, ?_⟩
        · show hK G6 (nd ns (k - 1)) = 19
          rw [k1]; exact hKn _ (by omega)
        · show hR G6 85 (nd ns (k - 1)) = _
          rw [m2, if_neg (by omega), show k - 1 + 1 = k from by omega]
        · show hR G6 86 (nd ns (k - 1)) = _
          rw [m3, if_neg (show ¬ k = 0 by omega), if_neg (show ¬ k - 1 < i by omega)]
          by_cases e : k - 1 = i
          · rw [if_pos e, if_pos e]
          · rw [if_neg e, if_neg e, if_neg (by omega)]
  have fr0 : Fr (LLp x ns) G (sR (sR (sR (sR (nO G 19 (cInst 19)) 84 (hS G) v) 85 (hS G) (nd ns i)) 86 (hS G) (if i = 0 then 0 else nd ns (i - 1))) 86 (nd ns i) (hS G)) :=
    (((((Fr.refl _ G).nO).sR (Or.inr (Nat.le_refl _))).sR (Or.inr (Nat.le_refl _))).sR (Or.inr (Nat.le_refl _))).sR (Or.inl (Or.inr (nd_mem hi')))
  have w0 : Wf (sR (sR (sR (sR (nO G 19 (cInst 19)) 84 (hS G) v) 85 (hS G) (nd ns i)) 86 (hS G) (if i = 0 then 0 else nd ns (i - 1))) 86 (nd ns i) (hS G)) := (((hw.nO.sR).sR).sR).sR
  have c86 : ∀ m, m < ns.length → hR (sR (sR (sR (sR (nO G 19 (cInst 19)) 84 (hS G) v) 85 (hS G) (nd ns i)) 86 (hS G) (if i = 0 then 0 else nd ns (i - 1))) 86 (nd ns i) (hS G)) 86 (nd ns m) = (if m = i then hS G else if m = 0 then 0 else nd ns (m - 1)) := by
    intro m hm
    by_cases e : m = i
    · rw [if_pos e, e, rs]
    · rw [if_neg e, ra (fun q => e (nd_inj h7 hm hi' q)), ra (hnq m hm), ra (hnq m hm), ra (hnq m hm), rn (hnq m hm)]
      exact (h8 m hm).2.2.2.2
  refine wp_ite (fun he => ?_) (fun he => ?_)
  · have hz : i = 0 := by
      rcases Nat.eq_zero_or_pos i with e | e
      · exact e
      · rw [if_neg (by omega)] at he
        have := (h8 (i - 1) (by omega)).2.1
        omega
    refine wp_pR (okw (c := 5) hKx (by decide) h2) (fin _ rfl rfl w0.sR (fr0.sR (Or.inl (Or.inl rfl))) rfl rfl ?_ ?_ ?_ ?_ ?_ (fun m hm => ⟨?_, ?_, ?_⟩))
    · rw [rs, ins_nd (by omega), if_neg (by omega), if_pos hz.symm]
    · rw [rf (by decide), rf (by decide), rf (by decide), rf (by decide), rf (by decide), rn hxq]; exact h6
    · rw [rf (by decide), rf (by decide), rf (by decide), rf (by decide), rs]
    · rw [rf (by decide), rf (by decide), rf (by decide), rs]
    · rw [rf (by decide), ra (Ne.symm (hnq i hi')), rs]
    · rw [rf (by decide), rf (by decide), rf (by decide), rf (by decide), ra (hnq m hm), rn (hnq m hm)]; exact (h8 m hm).2.2.1
    · rw [rf (by decide), rf (by decide), rf (by decide), ra (hnq m hm), rf (by decide), rn (hnq m hm), if_neg (by omega)]; exact (h8 m hm).2.2.2.1
    · rw [rf (by decide)]; exact c86 m hm
  · have hz : 0 < i := by
      rcases Nat.eq_zero_or_pos i with e | e
      · rw [if_pos e] at he; exact absurd rfl he
      · exact e
    have ep : (if i = 0 then 0 else nd ns (i - 1)) = nd ns (i - 1) := if_neg (by omega)
    have hKp := hKn (i - 1) (by omega)
    have gp := (h8 (i - 1) (by omega)).2.1
    refine wp_pR (okw (c := 19) (by rw [ep]; exact hKp) (by decide) (by rw [ep]; exact gp)) (fin _ rfl rfl w0.sR (fr0.sR (Or.inl (Or.inr (by rw [ep]; exact nd_mem (by omega))))) rfl rfl ?_ ?_ ?_ ?_ ?_ (fun m hm => ⟨?_, ?_, ?_⟩))
    · rw [rf (by decide), rf (by decide), rf (by decide), rf (by decide), rf (by decide), rn hxq, ins_nd (by omega), if_pos hz]; exact h5
    · rw [rf (by decide), rf (by decide), rf (by decide), rf (by decide), rf (by decide), rn hxq]; exact h6
    · rw [rf (by decide), rf (by decide), rf (by decide), rf (by decide), rs]
    · rw [ra (by rw [ep]; exact Ne.symm (hnq (i - 1) (by omega))), rf (by decide), rf (by decide), rs]
    · rw [rf (by decide), ra (Ne.symm (hnq i hi')), rs]
    · rw [rf (by decide), rf (by decide), rf (by decide), rf (by decide), ra (hnq m hm), rn (hnq m hm)]; exact (h8 m hm).2.2.1
    · by_cases e : m + 1 = i
      · rw [if_pos e, ep, show nd ns m = nd ns (i - 1) by rw [← e, Nat.add_sub_cancel], rs]
      · rw [if_neg e, ep, ra (fun q => e (by have := nd_inj h7 hm (by omega) q; omega)), rf (by decide), rf (by decide), ra (hnq m hm), rf (by decide), rn (hnq m hm)]
        exact (h8 m hm).2.2.2.1
    · rw [rf (by decide)]; exact c86 m hm
theorem LL.insert {γ : GP} {G : AH} {x v i : Nat} {ns L : List Nat} (hw : Wf G) (hb : γ.2 < hS G) (h : LL γ G x ns L) (hi : i ≤ L.length) (hL9 : L.length < 10000000) :
    wp (f_J4_add_2 γ x (Int32.ofNat i) v G) (fun r => LL γ r x (ins i (hS G) ns) (ins i v L) ∧ Fr (LLp x ns) G r ∧ Wf r ∧ hS r = hS G + 1 ∧ hM r = hM G + 3) := by
  have ck : f_J4_checkPositionIndex γ x (Int32.ofNat i) G = some G := by
    unfold f_J4_checkPositionIndex
    rw [if_pos h.1]
    unfold f_J4_isPositionIndex
    rw [if_neg (i_neg (by omega))]
    unfold gI
    rw [if_pos (okf h.1 (by decide)), h.2.2.2.1]
    dsimp only
    rw [if_neg (by rw [i_lt (by omega) (by omega)]; omega)]
    rfl
  have hl := h.2.2.1
  unfold f_J4_add_2
  rw [if_pos h.1, ck, bV_some]
  refine wp_gI (okf h.1 (by decide)) ?_
  rw [h.2.2.2.1]
  refine wp_ite (fun e => ?_) (fun e => ?_)
  · have e' : i = L.length := (i_eq (by omega) (by omega)).mp e
    refine wp_bV (wp_ifc h.1 (wp_mono (LL.push hw hb h) (fun r hr => wp_some ?_)))
    rw [e', ins_end, ← hl, ins_end]
    exact hr
  · have e' : i < L.length := by
      rcases Nat.lt_or_ge i L.length with q | q
      · exact q
      · exact absurd (by rw [show i = L.length by omega]) e
    rw [if_pos h.1, h.node hL9 e', bR_some]
    exact wp_bV (wp_ifc h.1 (wp_mono (LL.before hw hb h e') (fun r hr => wp_some hr)))
