/-! the commands keep what always holds -/
theorem nd_cnt {α : Type} {l : List α} {p : α → Bool} (h : l.Pairwise (fun a b => ¬ (p a = true ∧ p b = true))) : l.countP p ≤ 1 := by
  induction l with
  | nil => exact Nat.zero_le _
  | cons a l ih =>
    have hp := List.pairwise_cons.mp h
    rw [List.countP_cons]
    by_cases c : p a = true
    · rw [if_pos c]
      have : l.countP p = 0 := List.countP_eq_zero.mpr (fun b hb q => hp.1 b hb ⟨c, q⟩)
      omega
    · rw [if_neg c]
      exact ih hp.2
section I5
variable {S S1 S2 : St} {t : Nat} {b : Nat → Nat} {δ ω : Nat} {ms rest old : List Ms}
theorem sends_yk1 {kd j i : Nat} : (sendsP S kd j).countP (yk i j) ≤ 1 := by
  refine nd_cnt ?_
  unfold sendsP
  refine List.pairwise_map.mpr ?_
  have : (dks S j).Pairwise (· < ·) := List.Pairwise.filter _ List.pairwise_lt_range
  refine this.imp (fun {x y} h q => ?_)
  have q1 := (of_decide_eq_true q.1).2.1
  have q2 := (of_decide_eq_true q.2).2.1
  have e1 : x = i := q1
  have e2 : y = i := q2
  omega
theorem sends_ykn {kd j j2 i : Nat} (h : j2 ≠ j) : (sendsP S kd j).countP (yk i j2) = 0 := by
  refine List.countP_eq_zero.mpr (fun m hm q => ?_)
  obtain ⟨d, hd, e⟩ := List.mem_map.mp hm
  rw [← e] at q
  exact h ((of_decide_eq_true q).2.2).symm
theorem Jv.hears {d j : Nat} {bb : Bool} (h : Jv t b δ S (old ++ rest) ms) (hj : j < nc S) (hd : d < nk S) (hx : isD S j d) : Jv t b δ (hearsP S d j bb) rest ms := by
  have a := h.1.1
  have v6 : d < 6 := Nat.lt_of_lt_of_le hd a.2.1
  have hw1 : ∀ {w : Int32}, hw S j d = w → (w = 0 ∨ w = 1) → ∀ u : Int32, isHow u → lineN w + 1 ≤ lineN u → u ≠ 3 → ∀ line, IS (becomesP S j d u line) t := fun {w} e hw0 u hu hl u3 line => bec_IS h.1 hj hx hu (by rw [e]; exact hl) (by rw [e]; rcases hw0 with q | q <;> rw [q] <;> decide) u3
  unfold hearsP
  by_cases c1 : bb = true ∧ hw S j d = 1
  · rw [if_pos c1]
    have hg : ign S j d < 4 := ((IA.ok a h.1.2.1).2.2.1 _ hj _ v6 hx).2.1
    exact h.nil (bec_Sk.trans serve_Sk) (serve_IS h.1 hj hd hx c1.2 hg) (fun x => bec_ph (S := S)) (fun _ => rfl)
  · rw [if_neg c1]
    by_cases c2 : bb = false ∧ (hw S j d = 0 ∨ hw S j d = 1)
    · rw [if_pos c2]
      refine h.nil bec_Sk (hw1 rfl c2.2 4 (Or.inr (Or.inr (Or.inr (Or.inr rfl)))) ?_ (by decide) 6) (fun x => bec_ph) (fun _ => rfl)
      rcases c2.2 with q | q <;> rw [q] <;> decide
    · rw [if_neg c2]
      exact h.nil Sk.refl h.1 (fun _ => rfl) (fun _ => rfl)
/-! asking -/
def askS (S : St) (j : Nat) : St := usl (usc (usc S j 0 1) j 1 (sg S 0)) 0 (0, Int32.ofNat j, sg S 0)
theorem ask_sc {j x y : Nat} : sc (askS S j) x y = if x = j ∧ y = 1 then sg S 0 else if x = j ∧ y = 0 then 1 else sc S x y := rfl
theorem ask_Sk {j : Nat} : Sk S (askS S j) :=
  ⟨rfl, rfl, fun _ => rfl, fun j2 d2 => by rw [ask_sc, if_neg (by omega), if_neg (by omega)], fun j2 d2 => by
    show sc (askS S j) j2 (4 + 4 * d2 + 1) = _
    rw [ask_sc, if_neg (by omega), if_neg (by omega)]
    rfl⟩
theorem ask_hw {j x y : Nat} : hw (askS S j) x y = hw S x y := by
  show sc (askS S j) x (4 + 4 * y + 2) = _
  rw [ask_sc, if_neg (by omega), if_neg (by omega)]
  rfl
theorem ask_ph {j x : Nat} : sc (askS S j) x 0 = if x = j then 1 else sc S x 0 := by
  rw [ask_sc, if_neg (by omega)]
  by_cases c : x = j
  · rw [if_pos c, if_pos ⟨c, rfl⟩]
  · rw [if_neg c, if_neg (fun e => c e.1)]
theorem phN0 {j : Nat} (h : sc S j 0 = 0) : phN S j = 0 := by
  unfold phN
  rw [if_pos h]
theorem ask_IS {j : Nat} (h : IS S t) (hj : j < nc S) (h0 : sc S j 0 = 0) : IS (askS S j) t := by
  obtain ⟨⟨a1, a2, a3, a4, a5, a6, a7⟩, l, u⟩ := h
  have pe : phN (askS S j) j = 1 := phN1 (by rw [ask_ph, if_pos rfl])
  refine ⟨⟨a1, a2, a3, a4, a5, fun x hx => ?_, fun x hx d hd hxd => ?_⟩, ⟨?_, fun i hi => ?_⟩, fun i hi => ?_⟩
  · obtain ⟨c1, c2, c3, c4, c5⟩ := a6 x hx
    unfold CoI
    rw [ask_ph, ask_sc, show sc (askS S j) x 2 = sc S x 2 by rw [ask_sc, if_neg (by omega), if_neg (by omega)]]
    by_cases c : x = j
    · rw [if_pos c, if_pos ⟨c, rfl⟩, a1.1]
      refine ⟨c1, isN_of (a := 1) (by decide) (by decide) (by decide), Or.inr (isN_of (Nat.zero_le _) (Nat.le_refl _) (by omega)), c4, fun _ e => ?_⟩
      have n := i_neg (n := t) (by have := a1.2; omega)
      rw [e] at n
      exact n (by decide)
    · rw [if_neg c, if_neg (fun e => c e.1), if_neg (fun e => c e.1)]
      exact ⟨c1, c2, c3, c4, c5⟩
  · obtain ⟨q1, q2, q3, q4, q5⟩ := a7 x hx d hd ((ask_Sk (S := S)).isD.mp hxd)
    refine ⟨q1, by rw [ask_Sk.2.2.2.1]; exact q2, by rw [ask_Sk.2.2.2.2]; exact q3, by rw [ask_hw]; exact q4, ?_⟩
    rw [ask_hw, ask_sc, if_neg (by omega), if_neg (by omega)]
    exact q5
  · show (sl S 0 ++ [_]).length ≤ sumTo (nc S) (phN (askS S j))
    rw [List.length_append]
    have := sum_up (n := nc S) (k := j) (x := 1) (f := phN S) (g := phN (askS S j)) hj (by
      rw [pe, phN0 h0]; omega) (fun j2 _ hne => by unfold phN; rw [ask_ph, if_neg hne]; exact Nat.le_refl _)
    have := l.1
    show (sl S 0).length + 1 ≤ _
    omega
  · have e : sl (askS S j) (i + 1) = sl S (i + 1) := by
      show (if i + 1 = 0 then sl S 0 ++ [(0, Int32.ofNat j, sg S 0)] else sl S (i + 1)) = _
      rw [if_neg (by omega)]
    rw [e]
    show _ ≤ sumTo (nc S) (wl (askS S j) i)
    rw [sum_eq (g := wl S i) (fun x _ => by
      unfold wl
      rw [ask_hw]
      by_cases y : isD S x i
      · rw [if_pos y, if_pos ((ask_Sk (S := S)).isD.mpr y)]
      · rw [if_neg y, if_neg (fun q => y ((ask_Sk (S := S)).isD.mp q))])]
    exact l.2 i hi
  · have := u i hi
    refine ⟨?_, this.2⟩
    show srvP S i = Int32.ofNat (sumTo (nc S) (srvN (askS S j) i))
    rw [sum_eq (g := srvN S i) (fun x _ => by
      unfold srvN
      rw [ask_hw, ask_Sk.2.2.2.2]
      by_cases y : isD S x i ∧ hw S x i = 3
      · rw [if_pos y, if_pos ⟨(ask_Sk (S := S)).isD.mpr y.1, y.2⟩]
      · rw [if_neg y, if_neg (fun q => y ⟨(ask_Sk (S := S)).isD.mp q.1, q.2⟩)])]
    exact this.1
theorem ask_PN {j : Nat} (hj : j < nc S) (h0 : sc S j 0 = 0) : PN (askS S j) + (dks S j).length ≤ PN S := by
  refine sum_up (k := j) hj ?_ (fun j2 _ hne => ?_)
  · have e : phN (askS S j) j = 1 := phN1 (by rw [ask_ph, if_pos rfl])
    rw [e, phN0 h0, ask_Sk.dks]
    omega
  · have e : phN (askS S j) j2 = phN S j2 := by
      unfold phN
      rw [ask_ph, if_neg hne]
    rw [e, ask_Sk.dks]
    exact Nat.le_refl _
theorem Jv.asking {j : Nat} (h : Jv t b δ S [] ms) (hj : j < nc S) {v : Int32} {S1 : St} {new : List Ms} (e : asksP S j = .inl (v, S1, new)) : Jv t b δ S1 [] (ms ++ new) := by
  unfold asksP at e
  by_cases c1 : sg S 3 = 0
  · rw [if_pos c1] at e
    by_cases c2 : sc S j 0 = 0
    · rw [if_pos c2] at e
      by_cases c3 : (dks S j).length = 0
      · rw [if_pos c3] at e
        exact absurd e (by intro q; cases q)
      · rw [if_neg c3] at e
        cases e
        refine Jv.step (old := []) (rest := []) (S1 := askS S j) (new := sendsP S 0 j) h ask_Sk (ask_IS h.1 hj c2) (sends_VmA h.1.1 (by decide) hj) (fun j2 hj2 i hi => ?_) (fun k hk => ?_)
        · rw [ask_ph]
          show _ + bitN (sv S j2) i + _ ≤ _ + bitN (sv S j2) i + _
          by_cases c : j2 = j
          · rw [if_pos c, c, if_pos c2]
            have := sends_yk1 (S := S) (kd := 0) (j := j) (i := i)
            have e1 : (if (1 : Int32) = 0 then 0 else 1) = 1 := rfl
            rw [e1]
            omega
          · rw [if_neg c, sends_ykn c]; omega
        · have e1 := List.countP_le_length (p := dk S (t + k)) (l := sendsP S 0 j)
          rw [sends_len] at e1
          have e3 := ask_PN hj c2
          omega
    · rw [if_neg c2] at e
      exact absurd e (by intro q; cases q)
  · rw [if_neg c1] at e
    exact absurd e (by intro q; cases q)
theorem ph_lt2 {j : Nat} (h : IA S t) (hj : j < nc S) (c : sc S j 0 < 2) : phN S j ≤ 1 := by
  have q := (h.2.2.2.2.2.1 j hj).2.1
  have e := q.1
  have n : n32 (sc S j 0) < 2 := by
    rw [e, show (2 : Int32) = Int32.ofNat 2 from rfl, i_lt (by have := q.2.2; omega) (by decide)] at c
    exact c
  unfold phN
  rcases Nat.lt_or_ge (n32 (sc S j 0)) 1 with d | d
  · have : n32 (sc S j 0) = 0 := by omega
    rw [this] at e
    rw [e]
    decide
  · have : n32 (sc S j 0) = 1 := by omega
    rw [this] at e
    rw [e]
    decide
theorem Jv.cancel {j : Nat} (h : Jv t b δ S [] ms) (hj : j < nc S) {v : Int32} {S1 : St} {new : List Ms} (e : cancelsP S j = .inl (v, S1, new)) : Jv t b δ S1 [] (ms ++ new) := by
  unfold cancelsP at e
  by_cases c1 : sg S 3 = 0
  · rw [if_pos c1] at e
    by_cases c2 : sc S j 0 < 2
    · rw [if_pos c2] at e
      cases e
      exact Jv.decides (old := []) (rest := []) h hj (ph_lt2 h.1.1 hj c2) (Or.inr rfl)
    · rw [if_neg c2] at e
      exact absurd e (by intro q; cases q)
  · rw [if_neg c1] at e
    exact absurd e (by intro q; cases q)
theorem out_sk {w : Nat} {v : Int32} {i x : Nat} (hx : x ≠ 1) : sk (setOut S w v) i x = sk S i x := by
  unfold setOut
  split
  · rfl
  · rw [sk_usk, if_neg (fun e => hx e.2)]
theorem out_Sk {w : Nat} {v : Int32} : Sk S (setOut S w v) := by
  refine ⟨?_, ?_, fun i => out_sk (by decide), ?_, ?_⟩ <;> unfold setOut <;> split <;> first | rfl | exact fun _ _ => rfl
theorem out_sc {w : Nat} {v : Int32} : sc (setOut S w v) = sc S ∧ sv (setOut S w v) = sv S ∧ sl (setOut S w v) = sl S ∧ nk (setOut S w v) = nk S ∧ nc (setOut S w v) = nc S ∧ sg (setOut S w v) 0 = sg S 0 := by
  unfold setOut
  split
  · exact ⟨rfl, rfl, rfl, rfl, rfl, rfl⟩
  · exact ⟨rfl, rfl, rfl, rfl, rfl, rfl⟩
theorem out_IS {w : Nat} {v : Int32} (h : IS S t) (hv : v = 0 ∨ v = 1) : IS (setOut S w v) t := by
  obtain ⟨⟨a1, a2, a3, a4, a5, a6, a7⟩, l, u⟩ := h
  unfold setOut
  split
  · exact ⟨⟨a1, a2, a3, hv, a5, a6, a7⟩, l, u⟩
  · refine ⟨⟨a1, a2, a3, a4, fun i hi => ?_, a6, a7⟩, l, fun i hi => ?_⟩
    · have := a5 i hi
      rw [sk_usk, sk_usk]
      refine ⟨?_, by rw [if_neg (by omega)]; exact this.2⟩
      split
      · exact hv
      · exact this.1
    · have := u i hi
      refine ⟨?_, fun y hy => ?_⟩
      · rw [srvP_eq, sk_usk, sk_usk, sk_usk, sk_usk, if_neg (by omega), if_neg (by omega), if_neg (by omega), if_neg (by omega)]
        exact this.1
      · rw [sk_usk, sk_usk, sk_usk, if_neg (by omega), if_neg (by omega), if_neg (by omega)]
        exact this.2 y hy
theorem Jv.faint {w : Nat} (h : Jv t b δ S [] ms) {v : Int32} {S1 : St} {new : List Ms} (e : faintsP S w = .inl (v, S1, new)) : Jv t b δ S1 [] (ms ++ new) := by
  unfold faintsP at e
  by_cases c1 : outS S w = 0
  · rw [if_pos c1] at e
    cases e
    rw [List.append_nil]
    exact Jv.nil (old := []) (rest := []) h out_Sk (out_IS h.1 (Or.inr rfl)) (fun j => by rw [out_sc.1]) (fun j => by rw [out_sc.2.1])
  · rw [if_neg c1] at e
    exact absurd e (by intro q; cases q)
theorem Jv.learn {j d o : Nat} (h : Jv t b δ S [] ms) (hj : j < nc S) (hd : d < nk S) {v : Int32} {S1 : St} {new : List Ms} (e : learnsP S d o j = .inl (v, S1, new)) : Jv t b δ S1 [] (ms ++ new) := by
  unfold learnsP at e
  by_cases c1 : isD S j d
  · rw [if_pos c1] at e
    by_cases c2 : isD S j o
    · rw [if_pos c2] at e
      by_cases c3 : hw S j d = 1
      · rw [if_pos c3] at e
        by_cases c4 : sk S d 1 = 0
        · rw [if_pos c4] at e
          by_cases c5 : sk S o 1 = 0
          · rw [if_pos c5] at e
            by_cases c6 : hw S j o = 0 ∨ hw S j o = 1
            · rw [if_pos c6] at e
              exact absurd e (by intro q; cases q)
            · rw [if_neg c6] at e
              cases e
              rw [List.append_nil]
              exact Jv.hears (old := []) (rest := []) h hj hd c1
          · rw [if_neg c5] at e
            exact absurd e (by intro q; cases q)
        · rw [if_neg c4] at e
          exact absurd e (by intro q; cases q)
      · rw [if_neg c3] at e
        exact absurd e (by intro q; cases q)
    · rw [if_neg c2] at e
      exact absurd e (by intro q; cases q)
  · rw [if_neg c1] at e
    exact absurd e (by intro q; cases q)
theorem add_sub32 {a b c : Int32} : a - b + c = a + c - b := by
  rw [Int32.sub_eq_add_neg, Int32.sub_eq_add_neg]; ac_rfl
theorem Jv.bring {i0 ing : Nat} {a : Int32} (h : Jv t b δ S [] ms) (hg : ing < 4) {v : Int32} {S1 : St} {new : List Ms} (e : bringsP S i0 ing a = .inl (v, S1, new)) : Jv t b δ S1 [] (ms ++ new) := by
  unfold bringsP at e
  by_cases c1 : 50 < sk S i0 (3 + ing) + a
  · rw [if_pos c1] at e
    exact absurd e (by intro q; cases q)
  · rw [if_neg c1] at e
    cases e
    rw [List.append_nil]
    have ks : ∀ i x, sk (usk (usk S i0 (3 + ing) (sk S i0 (3 + ing) + a)) i0 (7 + ing) (sk S i0 (7 + ing) + a)) i x = if i = i0 ∧ x = 7 + ing then sk S i0 (7 + ing) + a else if i = i0 ∧ x = 3 + ing then sk S i0 (3 + ing) + a else sk S i x := fun i x => rfl
    refine Jv.nil (old := []) (rest := []) h ⟨rfl, rfl, fun i => by rw [ks, if_neg (by omega), if_neg (by omega)], fun _ _ => rfl, fun _ _ => rfl⟩ ?_ (fun _ => rfl) (fun _ => rfl)
    obtain ⟨⟨a1, a2, a3, a4, a5, a6, a7⟩, l, u⟩ := h.1
    refine ⟨⟨a1, a2, a3, a4, fun i hi => ?_, a6, a7⟩, l, fun i hi => ?_⟩
    · rw [ks, ks, if_neg (by omega), if_neg (by omega), if_neg (by omega), if_neg (by omega)]
      exact a5 i hi
    · have := u i hi
      refine ⟨?_, fun y hy => ?_⟩
      · rw [srvP_eq, ks, ks, ks, ks, if_neg (by omega), if_neg (by omega), if_neg (by omega), if_neg (by omega), if_neg (by omega), if_neg (by omega), if_neg (by omega), if_neg (by omega)]
        exact this.1
      · rw [ks, ks, ks, if_neg (show ¬ (i = i0 ∧ 3 + y = 7 + ing) by omega), if_neg (show ¬ (i = i0 ∧ 11 + y = 7 + ing) by omega), if_neg (show ¬ (i = i0 ∧ 11 + y = 3 + ing) by omega)]
        have e2 := this.2 y hy
        by_cases c : i = i0 ∧ y = ing
        · rw [if_pos ⟨c.1, by omega⟩, if_pos ⟨c.1, by omega⟩, ← c.1, ← c.2, e2, add_sub32]
        · rw [if_neg (fun q => c ⟨q.1, by omega⟩), if_neg (fun q => c ⟨q.1, by omega⟩), if_neg (by omega)]
          exact e2
end I5
