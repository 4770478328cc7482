/-! LinkedList -/
def nd (ns : List Nat) (i : Nat) : Nat := ns.getD i 0
/-- the list L lies in the LinkedList at x, in the nodes ns -/
def LL (γ : GP) (G : AH) (x : Nat) (ns L : List Nat) : Prop :=
  hK G x = 5 ∧ γ.2 < x ∧ ns.length = L.length ∧ hI G 19 x = Int32.ofNat L.length ∧ hR G 20 x = nd ns 0 ∧ hR G 21 x = nd ns (ns.length - 1) ∧ ns.Nodup ∧
  ∀ i, i < ns.length → hK G (nd ns i) = 19 ∧ γ.2 < nd ns i ∧ hR G 84 (nd ns i) = nd L i ∧ hR G 85 (nd ns i) = nd ns (i + 1) ∧ hR G 86 (nd ns i) = (if i = 0 then 0 else nd ns (i - 1))
def LLp (x : Nat) (ns : List Nat) : Nat → Prop := fun a => a = x ∨ a ∈ ns
theorem rf {G : AH} {f f2 a a2 v : Nat} (h : f2 ≠ f) : hR (sR G f a v) f2 a2 = hR G f2 a2 := by rw [hR_sR, if_neg (fun k => h k.1)]
theorem ra {G : AH} {f f2 a a2 v : Nat} (h : a2 ≠ a) : hR (sR G f a v) f2 a2 = hR G f2 a2 := by rw [hR_sR, if_neg (fun k => h k.2)]
theorem rs {G : AH} {f a v : Nat} : hR (sR G f a v) f a = v := by rw [hR_sR, if_pos ⟨rfl, rfl⟩]
theorem rn {G : AH} {c n f a : Nat} (h : a ≠ hS G) : hR (nO G c n) f a = hR G f a := by rw [hR_nO, if_neg h]
theorem nd_get {ns : List Nat} {i : Nat} (h : i < ns.length) : nd ns i = ns[i] := by
  unfold nd
  rw [List.getD_eq_getElem?_getD, List.getElem?_eq_getElem h]; rfl
theorem nd_mem {ns : List Nat} {i : Nat} (h : i < ns.length) : nd ns i ∈ ns := by
  rw [nd_get h]
  exact List.getElem_mem h
theorem nd_out {ns : List Nat} {i : Nat} (h : ns.length ≤ i) : nd ns i = 0 := by
  unfold nd
  rw [List.getD_eq_getElem?_getD, List.getElem?_eq_none h]; rfl
theorem nd_app {ns : List Nat} {q i : Nat} (h : i < ns.length) : nd (ns ++ [q]) i = nd ns i := by
  unfold nd
  rw [List.getD_eq_getElem?_getD, List.getD_eq_getElem?_getD, List.getElem?_append_left h]
theorem nd_last {ns : List Nat} {q : Nat} : nd (ns ++ [q]) ns.length = q := by
  unfold nd
  rw [List.getD_eq_getElem?_getD, List.getElem?_append_right (Nat.le_refl _), Nat.sub_self]; rfl
theorem nd_inj {ns : List Nat} (hn : ns.Nodup) {i j : Nat} (hi : i < ns.length) (hj : j < ns.length) (h : nd ns i = nd ns j) : i = j := by
  rw [nd_get hi, nd_get hj] at h
  rcases Nat.lt_trichotomy i j with hl | hl | hl
  · exact absurd h (List.pairwise_iff_getElem.mp hn i j hi hj hl)
  · exact hl
  · exact absurd h.symm (List.pairwise_iff_getElem.mp hn j i hj hi hl)
theorem LL.size {γ : GP} {G : AH} {x : Nat} {ns L : List Nat} (h : LL γ G x ns L) : f_J4_size γ x G = some (Int32.ofNat L.length, G) := by
  unfold f_J4_size gI
  rw [if_pos (okf h.1 (by decide)), h.2.2.2.1]
theorem LL.push {γ : GP} {G : AH} {x v : Nat} {ns L : List Nat} (hw : Wf G) (hb : γ.2 < hS G) (h : LL γ G x ns L) :
    wp (f_J4_linkLast γ x v G) (fun r => LL γ r x (ns ++ [hS G]) (L ++ [v]) ∧ Fr (LLp x ns) G r ∧ Wf r ∧ hS r = hS G + 1 ∧ hM r = hM G + 3) := by
  obtain ⟨h1, h2, h3, h4, h5, h6, h7, h8⟩ := h
  have hx := hw.2 x (by omega)
  have hxq : x ≠ hS G := by omega
  have hnq : ∀ i, i < ns.length → nd ns i ≠ hS G := fun i hi e => by
    have := hw.2 (nd ns i) (by rw [(h8 i hi).1]; decide)
    omega
  have hnx : ∀ i, i < ns.length → nd ns i ≠ x := fun i hi e => by
    have h9 := (h8 i hi).1
    rw [e, h1] at h9
    omega
  have hq0 : hS G ≠ 0 := by omega
  have hKq : hK (nO G 19 (cInst 19)) (hS G) = 19 := by rw [hK_nO, if_pos rfl]
  have hKx : hK (nO G 19 (cInst 19)) x = 5 := by rw [hK_nO, if_neg hxq]; exact h1
  unfold f_J4_linkLast
  refine wp_gR (okf h1 (by decide)) (wp_mO (wp_bV (wp_ifc hq0 ?_)))
  unfold f_J33_init
  refine wp_ifc hq0 (wp_pR (okw hKq (by decide) hb) (wp_pR (okw (c := 19) hKq (by decide) hb) (wp_pR (okw (c := 19) hKq (by decide) hb) (wp_some (wp_pR (okw (c := 5) hKx (by decide) h2) (wp_jn ?_))))))
  rw [h6]
  have fin : ∀ G6 : AH, hK G6 = hK (nO G 19 (cInst 19)) → hI G6 = hI (nO G 19 (cInst 19)) → Wf G6 → Fr (LLp x ns) G G6 → hS G6 = hS G + 1 → hM G6 = hM G + 3 →
      (hR G6 20 x = nd (ns ++ [hS G]) 0) → hR G6 21 x = hS G → hR G6 84 (hS G) = v → hR G6 85 (hS G) = 0 → hR G6 86 (hS G) = nd ns (ns.length - 1) →
      (∀ i, i < ns.length → hR G6 84 (nd ns i) = nd L i ∧ hR G6 85 (nd ns i) = nd (ns ++ [hS G]) (i + 1) ∧ hR G6 86 (nd ns i) = (if i = 0 then 0 else nd ns (i - 1))) →
      wp (gI G6 x 19 fun v8 => pI γ G6 x 19 (v8 + (1 : Int32)) fun g9 => gI g9 x 14 fun v10 => pI γ g9 x 14 (v10 + (1 : Int32)) fun g11 => (some g11)) (fun r => LL γ r x (ns ++ [hS G]) (L ++ [v]) ∧ Fr (LLp x ns) G r ∧ Wf r ∧ hS r = hS G + 1 ∧ hM r = hM G + 3) := by
    intro G6 k1 k2 k3 k4 k5 k6 k7 k8 k9 k10 k11 k12
    have kx : hK G6 x = 5 := by rw [k1]; exact hKx
    refine wp_gI (okf kx (by decide)) (wp_pI ⟨okw kx (by decide) h2, rfl, rfl⟩ (wp_gI (okf (c := 5) kx (by decide)) (wp_pI ⟨okw (c := 5) kx (by decide) h2, rfl, rfl⟩ (wp_some ?_))))
    refine ⟨⟨kx, h2, ?_, ?_, k7, ?_, ?_, ?_⟩, (k4.sI (Or.inl (Or.inl rfl))).sI (Or.inl (Or.inl rfl)), (k3.sI).sI, k5, k6⟩
    · rw [List.length_append, List.length_append, h3]; rfl
    · rw [hI_sI, if_neg (fun h => absurd h.1 (by decide)), hI_sI, if_pos ⟨rfl, rfl⟩, k2, hI_nO, if_neg hxq, h4, show (1 : Int32) = Int32.ofNat 1 from rfl, i_add, List.length_append]; rfl
    · rw [List.length_append]
      show hR G6 21 x = nd (ns ++ [hS G]) (ns.length + 1 - 1)
      rw [Nat.add_sub_cancel, nd_last]; exact k8
    · refine List.nodup_append.mpr ⟨h7, (by simp), ?_⟩
      intro a ha b hbb e
      rw [List.mem_singleton.mp hbb] at e
      obtain ⟨i, hi, e2⟩ := List.getElem_of_mem ha
      refine hnq i hi ?_
      rw [nd_get hi, e2]; exact e
    · intro i hi
      rw [List.length_append] at hi
      have hi2 : i < ns.length + 1 := hi
      by_cases e : i = ns.length
      · subst e
        rw [nd_last]
        refine ⟨?_, hb, ?_, ?_, ?_⟩
        · show hK G6 (hS G) = 19
          rw [k1]; exact hKq
        · show hR G6 84 (hS G) = _
          rw [k9, h3, nd_last]
        · show hR G6 85 (hS G) = _
          rw [k10, nd_out (by rw [List.length_append]; exact Nat.le_refl _)]
        · show hR G6 86 (hS G) = _
          rw [k11]
          split
          · rename_i e0
            rw [nd_out (by omega)]
          · rw [nd_app (by omega)]
      · have hi3 : i < ns.length := by omega
        obtain ⟨m1, m2, m3⟩ := k12 i hi3
        rw [nd_app hi3, nd_app (by omega)]
        refine ⟨?_, (h8 i hi3).2.1, m1, m2, ?_⟩
        · show hK G6 (nd ns i) = 19
          rw [k1, hK_nO, if_neg (hnq i hi3)]; exact (h8 i hi3).1
        · show hR G6 86 (nd ns i) = _
          rw [m3]
          split
          · rfl
          · rw [nd_app (by omega)]
  have fr0 : Fr (LLp x ns) G (sR (sR (sR (sR (nO G 19 (cInst 19)) 84 (hS G) v) 85 (hS G) 0) 86 (hS G) (nd ns (ns.length - 1))) 21 x (hS G)) :=
    (((((Fr.refl _ G).nO).sR (Or.inr (Nat.le_refl _))).sR (Or.inr (Nat.le_refl _))).sR (Or.inr (Nat.le_refl _))).sR (Or.inl (Or.inl rfl))
  have w0 : Wf (sR (sR (sR (sR (nO G 19 (cInst 19)) 84 (hS G) v) 85 (hS G) 0) 86 (hS G) (nd ns (ns.length - 1))) 21 x (hS G)) := (((hw.nO.sR).sR).sR).sR
  refine wp_ite (fun he => ?_) (fun he => ?_)
  · have hn0 : ns.length = 0 := by
      rcases Nat.eq_zero_or_pos ns.length with h | h
      · exact h
      · have := (h8 (ns.length - 1) (by omega)).2.1
        omega
    have hn : ns = [] := List.length_eq_zero_iff.mp hn0
    subst hn
    refine wp_pR (okw (c := 5) hKx (by decide) h2) (fin _ rfl rfl w0.sR (fr0.sR (Or.inl (Or.inl rfl))) rfl rfl ?_ ?_ ?_ ?_ ?_ (fun i hi => absurd hi (Nat.not_lt_zero _)))
    · rw [rs]; rfl
    · rw [rf (by decide), rs]
    · rw [rf (by decide), rf (by decide), rf (by decide), rf (by decide), rs]
    · rw [rf (by decide), rf (by decide), rf (by decide), rs]
    · rw [rf (by decide), rf (by decide), rs]
  · have hn0 : 0 < ns.length := by
      rcases Nat.eq_zero_or_pos ns.length with h | h
      · exact absurd (nd_out (by omega)) he
      · exact h
    have hl := hnq (ns.length - 1) (by omega)
    have hlx := hnx (ns.length - 1) (by omega)
    have hKl : hK (nO G 19 (cInst 19)) (nd ns (ns.length - 1)) = 19 := by rw [hK_nO, if_neg hl]; exact (h8 _ (by omega)).1
    refine wp_pR (okw (c := 19) hKl (by decide) (h8 _ (by omega)).2.1) (fin _ rfl rfl w0.sR (fr0.sR (Or.inl (Or.inr (nd_mem (by omega))))) rfl rfl ?_ ?_ ?_ ?_ ?_ (fun i hi => ?_))
    · rw [rf (by decide), rf (by decide), rf (by decide), rf (by decide), rf (by decide), rn hxq, h5, nd_app hn0]
    · rw [rf (by decide), rs]
    · rw [rf (by decide), rf (by decide), rf (by decide), rf (by decide), rs]
    · rw [ra (Ne.symm hl), rf (by decide), rf (by decide), rs]
    · rw [rf (by decide), rf (by decide), rs]
    · have e1 := hnq i hi
      have e2 := hnx i hi
      obtain ⟨m0, m1, m2, m3, m4⟩ := h8 i hi
      refine ⟨?_, ?_, ?_⟩
      · rw [rf (by decide), ra e2, ra e1, ra e1, ra e1, rn e1]; exact m2
      · by_cases e : i = ns.length - 1
        · rw [e, rs, show ns.length - 1 + 1 = ns.length by omega, nd_last]
        · rw [ra (fun h => e (nd_inj h7 hi (by omega) h)), ra e2, ra e1, ra e1, ra e1, rn e1, m3, nd_app (by omega)]
      · rw [rf (by decide), ra e2, ra e1, ra e1, ra e1, rn e1]; exact m4
theorem nd_succ {q i : Nat} {ns : List Nat} : nd (q :: ns) (i + 1) = nd ns i := rfl
theorem nd_zero {q : Nat} {ns : List Nat} : nd (q :: ns) 0 = q := rfl
theorem LL.pop {γ : GP} {G : AH} {x q v : Nat} {ns L : List Nat} (hw : Wf G) (h : LL γ G x (q :: ns) (v :: L)) (hL9 : L.length < 10000000) :
    wp (f_J4_removeFirst γ x G) (fun r => r.1 = v ∧ LL γ r.2 x ns L ∧ Fr (LLp x (q :: ns)) G r.2 ∧ Wf r.2 ∧ hS r.2 = hS G ∧ hM r.2 = hM G) := by
  obtain ⟨h1, h2, h3, h4, h5, h6, h7, h8⟩ := h
  have h30 : ns.length = L.length := Nat.succ.inj h3
  obtain ⟨q0, q1, q2, q3, q4⟩ := h8 0 (Nat.succ_pos _)
  rw [nd_zero] at q0 q1 q2 q3 q4 h5
  rw [nd_zero] at q2
  have q3' : hR G 85 q = nd ns 0 := q3
  have hqx : q ≠ x := fun e => by rw [e, h1] at q0; omega
  have hq0 : q ≠ 0 := by omega
  have hnq : ∀ i, i < ns.length → nd ns i ≠ q := fun i hi e => by
    have := (List.nodup_cons.mp h7).1
    rw [← e] at this
    exact this (nd_mem hi)
  have h8' : ∀ i, i < ns.length → hK G (nd ns i) = 19 ∧ γ.2 < nd ns i ∧ hR G 84 (nd ns i) = nd L i ∧ hR G 85 (nd ns i) = nd ns (i + 1) ∧ hR G 86 (nd ns i) = nd (q :: ns) i := fun i hi => by
    have := h8 (i + 1) (Nat.succ_lt_succ hi)
    rw [if_neg (Nat.succ_ne_zero i)] at this
    exact this
  have hnx : ∀ i, i < ns.length → nd ns i ≠ x := fun i hi e => by
    have h9 := (h8' i hi).1
    rw [e, h1] at h9
    omega
  unfold f_J4_removeFirst
  refine wp_gR (okf h1 (by decide)) ?_
  rw [h5, if_neg hq0]
  refine wp_bR (wp_ifc h1 ?_)
  unfold f_J4_unlinkFirst
  refine wp_gR (okf q0 (by decide)) (wp_gR (okf q0 (by decide)) (wp_pR (okw q0 (by decide) q1) (wp_pR (okw (c := 19) q0 (by decide) q1) (wp_pR (okw (c := 5) h1 (by decide) h2) (wp_jn ?_)))))
  rw [q2, q3']
  have fin : ∀ G6 : AH, hK G6 = hK G → hI G6 = hI G → Wf G6 → Fr (LLp x (q :: ns)) G G6 → hS G6 = hS G → hM G6 = hM G →
      hR G6 20 x = nd ns 0 → hR G6 21 x = nd ns (ns.length - 1) →
      (∀ i, i < ns.length → hR G6 84 (nd ns i) = nd L i ∧ hR G6 85 (nd ns i) = nd ns (i + 1) ∧ hR G6 86 (nd ns i) = (if i = 0 then 0 else nd ns (i - 1))) →
      wp (gI G6 x 19 fun v8 => pI γ G6 x 19 (v8 - (1 : Int32)) fun g9 => gI g9 x 14 fun v10 => pI γ g9 x 14 (v10 + (1 : Int32)) fun g11 => (some (v, g11))) (fun r => wp (some (r.1, r.2)) (fun r => r.1 = v ∧ LL γ r.2 x ns L ∧ Fr (LLp x (q :: ns)) G r.2 ∧ Wf r.2 ∧ hS r.2 = hS G ∧ hM r.2 = hM G)) := by
    intro G6 k1 k2 k3 k4 k5 k6 k7 k8 k9
    have kx : hK G6 x = 5 := by rw [k1]; exact h1
    refine wp_gI (okf kx (by decide)) (wp_pI ⟨okw kx (by decide) h2, rfl, rfl⟩ (wp_gI (okf (c := 5) kx (by decide)) (wp_pI ⟨okw (c := 5) kx (by decide) h2, rfl, rfl⟩ (wp_some (wp_some ?_)))))
    refine ⟨rfl, ⟨kx, h2, h30, ?_, k7, k8, (List.nodup_cons.mp h7).2, fun i hi => ?_⟩, (k4.sI (Or.inl (Or.inl rfl))).sI (Or.inl (Or.inl rfl)), (k3.sI).sI, k5, k6⟩
    · rw [hI_sI, if_neg (fun h => absurd h.1 (by decide)), hI_sI, if_pos ⟨rfl, rfl⟩, k2, h4, show (1 : Int32) = Int32.ofNat 1 from rfl, List.length_cons, i_sub (by omega)]; rfl
    · obtain ⟨m1, m2, m3⟩ := k9 i hi
      refine ⟨?_, (h8' i hi).2.1, m1, m2, m3⟩
      show hK G6 (nd ns i) = 19
      rw [k1]; exact (h8' i hi).1
  have fr0 : Fr (LLp x (q :: ns)) G (sR (sR (sR G 84 q 0) 85 q 0) 20 x (nd ns 0)) :=
    (((Fr.refl _ G).sR (Or.inl (Or.inr List.mem_cons_self))).sR (Or.inl (Or.inr List.mem_cons_self))).sR (Or.inl (Or.inl rfl))
  have w0 : Wf (sR (sR (sR G 84 q 0) 85 q 0) 20 x (nd ns 0)) := ((hw.sR).sR).sR
  refine wp_ite (fun he => ?_) (fun he => ?_)
  · have hn0 : ns.length = 0 := by
      rcases Nat.eq_zero_or_pos ns.length with h | h
      · exact h
      · have := (h8' 0 h).2.1
        omega
    have hn : ns = [] := List.length_eq_zero_iff.mp hn0
    subst hn
    refine wp_pR (okw (c := 5) h1 (by decide) h2) (fin _ rfl rfl w0.sR (fr0.sR (Or.inl (Or.inl rfl))) rfl rfl ?_ ?_ (fun i hi => absurd hi (Nat.not_lt_zero _)))
    · rw [rf (by decide), rs]
    · rw [rs]; rfl
  · have hn0 : 0 < ns.length := by
      rcases Nat.eq_zero_or_pos ns.length with h | h
      · exact absurd (nd_out (by omega)) he
      · exact h
    refine wp_pR (okw (c := 19) (h8' 0 hn0).1 (by decide) (h8' 0 hn0).2.1) (fin _ rfl rfl w0.sR (fr0.sR (Or.inl (Or.inr (List.mem_cons_of_mem _ (nd_mem hn0))))) rfl rfl ?_ ?_ (fun i hi => ?_))
    · rw [rf (by decide), rs]
    · rw [rf (by decide), rf (by decide), rf (by decide), rf (by decide), h6]
      show nd (q :: ns) ns.length = _
      rw [show ns.length = ns.length - 1 + 1 by omega, nd_succ, Nat.add_sub_cancel]
    · obtain ⟨m0, m1, m2, m3, m4⟩ := h8' i hi
      have e1 := hnq i hi
      refine ⟨?_, ?_, ?_⟩
      · rw [rf (by decide), rf (by decide), rf (by decide), ra e1]; exact m2
      · rw [rf (by decide), rf (by decide), ra e1, rf (by decide)]; exact m3
      · by_cases e : i = 0
        · subst e
          rw [rs, if_pos rfl]
        · rw [ra (fun h => e (nd_inj (List.nodup_cons.mp h7).2 hi hn0 h)), rf (by decide), rf (by decide), rf (by decide), m4, if_neg e]
          rw [show i = i - 1 + 1 by omega, nd_succ, Nat.add_sub_cancel]
theorem LL.made {γ : GP} {G : AH} {x : Nat} (hw : Wf G) (hk : hK G x = 5) (hx : γ.2 < x) (h20 : hR G 20 x = 0) (h21 : hR G 21 x = 0) :
    wp (f_J4_init γ x G) (fun r => LL γ r x [] [] ∧ Fr (fun a => a = x) G r ∧ Wf r ∧ hS r = hS G ∧ hM r = hM G) := by
  have hx0 : x ≠ 0 := by omega
  unfold f_J4_init
  refine wp_bV (wp_ifc hx0 ?_)
  unfold f_J3_init
  refine wp_bV (wp_ifc hx0 ?_)
  unfold f_J1_init
  refine wp_bV (wp_ifc hx0 ?_)
  unfold f_J0_init
  refine wp_ifc hx0 (wp_some (wp_pI ⟨okw hk (by decide) hx, rfl, rfl⟩ (wp_some (wp_some (wp_pI ⟨okw (c := 5) hk (by decide) hx, rfl, rfl⟩ (wp_some ?_))))))
  refine ⟨⟨hk, hx, rfl, ?_, h20, h21, List.nodup_nil, fun i hi => absurd hi (Nat.not_lt_zero _)⟩, ((Fr.refl (fun a => a = x) G).sI (Or.inl rfl)).sI (Or.inl rfl), (hw.sI).sI, rfl, rfl⟩
  rw [hI_sI, if_pos ⟨rfl, rfl⟩]; rfl
