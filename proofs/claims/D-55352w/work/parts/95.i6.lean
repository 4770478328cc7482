/-! waking, hiring, planning, giving -/
theorem fo_inv {α : Type} {f : Nat → α → α} {P : Nat → α → Prop} (m : Nat) : ∀ (k : Nat) (a : α), (∀ x a, k ≤ x → x < k + m → P x a → P (x + 1) (f x a)) → P k a → P (k + m) (fo f m k a) := by
  induction m with
  | zero => intro k a _ h; exact h
  | succ m ih =>
    intro k a h p
    have := ih (k + 1) (f k a) (fun x a h1 h2 => h x a (by omega) (by omega)) (h k a (Nat.le_refl _) (by omega) p)
    rw [show k + (m + 1) = k + 1 + m from by omega]
    exact this
section I6
variable {S S1 S2 : St} {t : Nat} {b b1 : Nat → Nat} {δ δ1 ω : Nat} {ms rest old new : List Ms}
theorem Jv.more (h : Jv t b δ S [] ms) (hn : ∀ m ∈ new, VmA S (t + 1) (t + 5) m ∧ 1 < m.1) (hb : ∀ k, k ≤ 10 → new.length + b k ≤ b1 k) : Jv t b1 δ S [] (ms ++ new) := by
  obtain ⟨b0, _, b2, b3, b4, b5⟩ := h
  refine ⟨b0, fun m hm => (by cases hm), fun m hm => ?_, fun j hj i hi => ?_, fun k hk => ?_, b5⟩
  · rcases List.mem_append.mp hm with q | q
    · exact b2 m q
    · exact (hn m q).1
  · have y := b3 j hj i hi
    rw [List.nil_append] at y ⊢
    rw [List.countP_append]
    have z : new.countP (yk i j) = 0 := List.countP_eq_zero.mpr (fun m hm q => by
      have := (of_decide_eq_true q).1
      have := (hn m hm).2
      omega)
    omega
  · have y := b4 k hk
    rw [List.nil_append] at y ⊢
    rw [List.countP_append]
    have := List.countP_le_length (p := dk S (t + k)) (l := new)
    have := hb k hk
    omega
theorem Jv.wkH {j : Nat} (h : Jv t b δ S [] ms) (hj : j < nc S) : Jv t b δ (wk1 j S) [] ms := by
  unfold wk1
  by_cases c : sc S j 0 = 1
  · rw [if_pos c]
    have pj := phN1 c
    have := Jv.step (old := []) (rest := []) (new := []) h set_Sk (set_IS h.1 hj (by rw [pj]; decide) (Or.inr rfl)) (fun m hm => (by cases hm)) (fun j2 hj2 i hi => by
      rw [set_ph, List.countP_nil]
      show 0 + bitN (sv S j2) i + _ ≤ 0 + bitN (sv S j2) i + _
      by_cases c2 : j2 = j
      · rw [if_pos c2, if_neg (show ¬ ((3 : Int32) = 0) by decide)]
        split <;> omega
      · rw [if_neg c2]; omega) (fun k hk => by
      have := set_PN (S := S) (v := 3) hj (by rw [pj]; decide) (Or.inr rfl)
      rw [List.countP_nil]
      omega)
    rw [List.append_nil] at this
    exact this
  · rw [if_neg c]
    exact h
theorem hostW_nc : nc (hostW S) = nc S := fo_inv (P := fun _ S1 => nc S1 = nc S) (f := wk1) (nc S) 0 S (fun x a _ hx p => by rw [wk1_nc.1]; exact p) rfl
theorem Jv.hostW (h : Jv t b δ S [] ms) : Jv t b δ (hostW S) [] ms := by
  have := fo_inv (P := fun _ S1 => Jv t b δ S1 [] ms ∧ nc S1 = nc S) (f := wk1) (nc S) 0 S (fun x a _ hx p => ⟨p.1.wkH (by rw [p.2]; omega), by rw [wk1_nc.1]; exact p.2⟩) ⟨h, rfl⟩
  exact this.1
theorem wk2_of (a : IA S t) : (∀ m ∈ (fo (wk2 S) (nc S) 0 (0, [])).2, VmA S (t + 1) (t + 5) m ∧ 1 < m.1) ∧ (fo (wk2 S) (nc S) 0 (0, [])).2.length ≤ DN S := by
  have := fo_inv (f := wk2 S) (P := fun x q => (∀ m ∈ q.2, VmA S (t + 1) (t + 5) m ∧ 1 < m.1) ∧ q.2.length ≤ sumTo x (fun j => (dks S j).length)) (nc S) 0 (0, []) (fun x q _ hx p => by
    unfold wk2
    have e : sumTo (x + 1) (fun j => (dks S j).length) = sumTo x (fun j => (dks S j).length) + (dks S x).length := rfl
    by_cases c : sc S x 0 < 2
    · rw [if_pos c]
      exact ⟨p.1, by rw [e]; have := p.2; omega⟩
    · rw [if_neg c]
      have dd : decn S x = 3 ∨ decn S x = 4 := by
        unfold decn
        split
        · exact Or.inl rfl
        · exact Or.inr rfl
      refine ⟨fun m hm => ?_, ?_⟩
      · rcases List.mem_append.mp hm with z | z
        · exact p.1 m z
        · refine ⟨sends_VmA a (by omega) (by omega) m z, ?_⟩
          obtain ⟨d, hd, e⟩ := List.mem_map.mp z
          rw [← e]
          show 1 < decn S x
          omega
      · rw [List.length_append, sends_len, e]
        have := p.2
        omega) ⟨fun m hm => (by cases hm), Nat.zero_le _⟩
  rw [Nat.zero_add] at this
  exact this
theorem cI_le {i j : Nat} (hi : i < 6) : cI S i j ≤ (dks S j).length := by
  rw [dks_sum]
  exact sum_ge (f := fun i => cI S i j) hi
theorem wk3_of {i0 : Nat} (a : IA S t) (hi0 : i0 < nk S) : (∀ m ∈ (fo (wk3 S i0) (nc S) 0 (0, [])).2, VmA S (t + 1) (t + 5) m ∧ 1 < m.1) ∧ (fo (wk3 S i0) (nc S) 0 (0, [])).2.length ≤ DN S := by
  have h6 : i0 < 6 := Nat.lt_of_lt_of_le hi0 a.2.1
  have := fo_inv (f := wk3 S i0) (P := fun x q => (∀ m ∈ q.2, VmA S (t + 1) (t + 5) m ∧ 1 < m.1) ∧ q.2.length ≤ sumTo x (fun j => (dks S j).length)) (nc S) 0 (0, []) (fun x q _ hx p => by
    unfold wk3
    have e : sumTo (x + 1) (fun j => (dks S j).length) = sumTo x (fun j => (dks S j).length) + (dks S x).length := rfl
    by_cases c : isD S x i0 ∧ hw S x i0 = 1
    · rw [if_pos c]
      refine ⟨fun m hm => ?_, ?_⟩
      · rcases List.mem_append.mp hm with z | z
        · exact p.1 m z
        · rw [List.mem_singleton.mp z]
          exact ⟨mg_VmA a (by decide) hi0 (by omega) c.1, by show 1 < 5; decide⟩
      · rw [List.length_append, e]
        have := p.2
        have h1 : 1 ≤ (dks S x).length := by
          have := cI_le (S := S) (j := x) h6
          unfold cI at this
          rw [if_pos c.1] at this
          exact this
        show q.2.length + 1 ≤ _
        omega
    · rw [if_neg c]
      exact ⟨p.1, by rw [e]; have := p.2; omega⟩) ⟨fun m hm => (by cases hm), Nat.zero_le _⟩
  rw [Nat.zero_add] at this
  exact this
theorem bM_w (k : Nat) : bM (ω + 1) δ k = bM ω δ k + δ := by
  unfold bM
  rw [show 12 - k + (ω + 1) = (12 - k + ω) + 1 from by omega, Nat.succ_mul]
theorem bM_d (k : Nat) (hk : k ≤ 10) : bM ω δ k + 2 ≤ bM ω (δ + 1) k := by
  unfold bM
  rw [Nat.mul_succ]; omega
theorem Jv.wake {w : Nat} (h : Jv t (bM ω δ) δ S [] ms) (hw : w < nk S + 1) {v : Int32} {S1 : St} {new : List Ms} (e : wakesP S w = .inl (v, S1, new)) : Jv t (bM (ω + 1) δ) δ S1 [] (ms ++ new) := by
  unfold wakesP at e
  have ho : ∀ w, Jv t (bM ω δ) δ (setOut S w 0) [] ms := fun w => Jv.nil (old := []) (rest := []) h out_Sk (out_IS h.1 (Or.inl rfl)) (fun j => by rw [out_sc.1]) (fun j => by rw [out_sc.2.1])
  by_cases c1 : outS S w = 0
  · rw [if_pos c1] at e
    exact absurd e (by intro q; cases q)
  · rw [if_neg c1] at e
    by_cases c2 : w = 0
    · rw [if_pos c2] at e
      cases e
      have h1 := (ho 0).hostW
      have q := wk2_of h1.1.1
      rw [hostW_nc (S := setOut S 0 0), show nc (setOut S 0 0) = nc S from rfl] at q
      refine h1.more q.1 (fun k hk => ?_)
      have := h1.2.2.2.2.2
      rw [bM_w]
      omega
    · rw [if_neg c2] at e
      cases e
      have h1 := ho w
      have q := wk3_of (i0 := w - 1) h1.1.1 (by show w - 1 < nk (setOut S w 0); rw [out_sc.2.2.2.1]; omega)
      rw [out_sc.2.2.2.2.1] at q
      refine h1.more q.1 (fun k hk => ?_)
      have := h1.2.2.2.2.2
      rw [bM_w]
      omega
/-! what grows -/
theorem Jv.grow {ms : List Ms} (h : Jv t b δ S [] ms) (h1 : IS S1 t) (hm : ∀ m, Vm S m → Vm S1 m ∧ dl S1 m = dl S m) (hY : ∀ j, j < nc S1 → ∀ i, i < 6 → (j < nc S → sv S1 j = sv S j ∧ sc S1 j 0 = sc S j 0) ∧ (¬ j < nc S → sv S1 j = 0))
    (hB : ∀ k, k ≤ 10 → PN S1 + b k ≤ b1 k + PN S) (hD : DN S1 ≤ δ1) : Jv t b1 δ1 S1 [] ms := by
  obtain ⟨b0, _, b2, b3, b4, b5⟩ := h
  refine ⟨h1, fun m hm => (by cases hm), fun m q => ⟨(hm m (b2 m q).1).1, (b2 m q).2⟩, fun j hj i hi => ?_, fun k hk => ?_, hD⟩
  · have q := hY j hj i hi
    rw [List.nil_append]
    by_cases c : j < nc S
    · have y := b3 j c i hi
      rw [(q.1 c).1, (q.1 c).2]
      exact y
    · rw [q.2 c]
      have z : ms.countP (yk i j) = 0 := List.countP_eq_zero.mpr (fun m hm q => by
        have e := (of_decide_eq_true q).2.2
        have := (b2 m hm).1.2.2.1
        omega)
      have e0 : bitN 0 i = 0 := by unfold bitN; rw [Nat.zero_div]
      rw [z, e0]
      exact Nat.zero_le _
  · have y := b4 k hk
    have z := hB k hk
    rw [List.nil_append] at y ⊢
    have e : ms.countP (dk S1 (t + k)) = ms.countP (dk S (t + k)) := List.countP_congr (fun m q => by
      unfold dk
      rw [(hm m (b2 m q).1).2])
    rw [e]
    omega
theorem Jv.hire {d : Int32} (h : Jv t b δ S [] ms) (hd : isN d 1 5) {v : Int32} {S1 : St} {new : List Ms} (e : hiresP S d = .inl (v, S1, new)) : Jv t b δ S1 [] (ms ++ new) := by
  unfold hiresP at e
  by_cases c : nk S < 6
  · rw [if_pos c] at e
    cases e
    rw [List.append_nil]
    obtain ⟨⟨a1, a2, a3, a4, a5, a6, a7⟩, l, u⟩ := h.1
    have ks : ∀ i x, sk (addCk S (fun x => if x = 0 then d else 0) []) i x = if i = nk S then (if x = 0 then d else 0) else sk S i x := fun i x => rfl
    refine h.grow (S1 := addCk S (fun x => if x = 0 then d else 0) []) ⟨⟨a1, by show nk S + 1 ≤ 6; omega, a3, a4, fun i hi => ?_, a6, fun j hj d2 hd2 hx => ?_⟩, ⟨l.1, fun i hi => ?_⟩, fun i hi => ?_⟩ (fun m v => ?_) (fun j hj i hi => ⟨fun _ => ⟨rfl, rfl⟩, fun q => absurd hj q⟩) (fun k hk => Nat.le_of_eq (Nat.add_comm _ _)) h.2.2.2.2.2
    · rw [ks, ks]
      by_cases c2 : i = nk S
      · rw [if_pos c2, if_pos c2, if_neg (by decide), if_pos rfl]
        exact ⟨Or.inl rfl, hd⟩
      · rw [if_neg c2, if_neg c2]
        exact a5 i (by have : i < nk S + 1 := hi; omega)
    · have := a7 j hj d2 hd2 hx
      exact ⟨by show d2 < nk S + 1; have := this.1; omega, this.2⟩
    · show (if i + 1 = nk S + 1 then [] else sl S (i + 1)).length ≤ sumTo (nc S) (wl S i)
      split
      · exact Nat.zero_le _
      · exact l.2 i hi
    · have hi : i < nk S + 1 := hi
      by_cases c2 : i = nk S
      · refine ⟨?_, fun y hy => ?_⟩
        · rw [srvP_eq, ks, ks, ks, ks, if_pos c2, if_neg (by decide), if_pos c2, if_neg (by decide), if_pos c2, if_neg (by decide), if_pos c2, if_neg (by decide)]
          have z : sumTo (nc S) (srvN S i) = 0 := by
            have := sum_const (n := nc S) (c := 0) (f := srvN S i) (fun j hj => by
              unfold srvN
              rw [if_neg (fun q => by have := (a7 j hj i (by omega) q.1).1; omega)]
              exact Nat.le_refl _)
            omega
          show (0 : Int32) + 0 + 0 + 0 + 0 = Int32.ofNat (sumTo (nc S) (srvN S i))
          rw [z]; rfl
        · rw [ks, ks, ks, if_pos c2, if_pos c2, if_pos c2, if_neg (by omega), if_neg (by omega), if_neg (by omega)]
          rfl
      · have := u i (by omega)
        refine ⟨?_, fun y hy => ?_⟩
        · rw [srvP_eq, ks, ks, ks, ks, if_neg c2, if_neg c2, if_neg c2, if_neg c2]
          exact this.1
        · rw [ks, ks, ks, if_neg c2, if_neg c2, if_neg c2]
          exact this.2 y hy
    · obtain ⟨v1, v2, v3, v4⟩ := v
      refine ⟨⟨v1, by show m.2.1 < nk S + 1; omega, v3, v4⟩, ?_⟩
      unfold dl dn
      rw [ks, if_neg (show ¬ m.2.1 = nk S by omega)]
  · rw [if_neg c] at e
    exact absurd e (by intro q; cases q)
theorem Jv.plan (h : Jv t b δ S [] ms) {v : Int32} {S1 : St} {new : List Ms} (e : plansP S = .inl (v, S1, new)) : Jv t b δ S1 [] (ms ++ new) := by
  unfold plansP at e
  by_cases c : nc S < 8
  · rw [if_pos c] at e
    cases e
    rw [List.append_nil]
    obtain ⟨⟨a1, a2, a3, a4, a5, a6, a7⟩, l, u⟩ := h.1
    have ks : ∀ j x, sc (addCr S crn0 0) j x = if j = nc S then crn0 x else sc S j x := fun j x => rfl
    have nD : ∀ d, ¬ isD (addCr S crn0 0) (nc S) d := fun d q => by
      have q : 0 < sc (addCr S crn0 0) (nc S) (4 + 4 * d) := q
      rw [ks, if_pos rfl] at q
      unfold crn0 at q
      rw [if_neg (by omega)] at q
      exact absurd q (by decide)
    have oD : ∀ j d, j ≠ nc S → (isD (addCr S crn0 0) j d ↔ isD S j d) := fun j d hj => by
      show 0 < sc (addCr S crn0 0) j (4 + 4 * d) ↔ _
      rw [ks, if_neg hj]
    have dk0 : dks (addCr S crn0 0) (nc S) = [] := List.filter_eq_nil_iff.mpr (fun d _ q => nD d (of_decide_eq_true q))
    have dkn : ∀ j, j ≠ nc S → dks (addCr S crn0 0) j = dks S j := fun j hj => List.filter_congr (fun d _ => decide_eq_decide.mpr (oD j d hj))
    have hwn : ∀ j d, j ≠ nc S → hw (addCr S crn0 0) j d = hw S j d := fun j d hj => by
      show sc (addCr S crn0 0) j (4 + 4 * d + 2) = _
      rw [ks, if_neg hj]; rfl
    have amn : ∀ j d, j ≠ nc S → am (addCr S crn0 0) j d = am S j d := fun j d hj => by
      show sc (addCr S crn0 0) j (4 + 4 * d + 1) = _
      rw [ks, if_neg hj]; rfl
    have phn : ∀ j, j ≠ nc S → phN (addCr S crn0 0) j = phN S j := fun j hj => by
      unfold phN
      rw [ks, if_neg hj]
    have wln : ∀ i j, j ≠ nc S → wl (addCr S crn0 0) i j = wl S i j := fun i j hj => by
      unfold wl
      rw [hwn j i hj]
      by_cases y : isD S j i
      · rw [if_pos y, if_pos ((oD j i hj).mpr y)]
      · rw [if_neg y, if_neg (fun q => y ((oD j i hj).mp q))]
    have srn : ∀ i j, j ≠ nc S → srvN (addCr S crn0 0) i j = srvN S i j := fun i j hj => by
      unfold srvN
      rw [hwn j i hj, amn j i hj]
      by_cases y : isD S j i ∧ hw S j i = 3
      · rw [if_pos y, if_pos ⟨(oD j i hj).mpr y.1, y.2⟩]
      · rw [if_neg y, if_neg (fun q => y ⟨(oD j i hj).mp q.1, q.2⟩)]
    have p1 : PN (addCr S crn0 0) = PN S := by
      show sumTo (nc S) _ + (2 - phN (addCr S crn0 0) (nc S)) * (dks (addCr S crn0 0) (nc S)).length = _
      rw [dk0, List.length_nil, Nat.mul_zero, Nat.add_zero]
      exact sum_eq (fun j hj => by rw [phn j (by omega), dkn j (by omega)])
    have d1 : DN (addCr S crn0 0) = DN S := by
      show sumTo (nc S) _ + (dks (addCr S crn0 0) (nc S)).length = _
      rw [dk0, List.length_nil, Nat.add_zero]
      exact sum_eq (fun j hj => by rw [dkn j (by omega)])
    refine h.grow (S1 := addCr S crn0 0) ⟨⟨a1, a2, by show nc S + 1 ≤ 8; omega, a4, a5, fun j hj => ?_, fun j hj d2 hd2 hx => ?_⟩, ⟨?_, fun i hi => ?_⟩, fun i hi => ?_⟩ (fun m v => ?_) (fun j hj i hi => ⟨fun q => ⟨?_, ?_⟩, fun q => ?_⟩) (fun k hk => by rw [p1]; omega) (by rw [d1]; exact h.2.2.2.2.2)
    · have hj : j < nc S + 1 := hj
      by_cases c2 : j = nc S
      · unfold CoI
        rw [show sv (addCr S crn0 0) j = 0 from if_pos c2, ks, ks, ks, if_pos c2, if_pos c2, if_pos c2]
        exact ⟨by decide, isN_of (a := 0) (by decide) (by decide) (by decide), Or.inl rfl, Or.inl rfl, fun e => absurd e (by decide)⟩
      · unfold CoI
        rw [show sv (addCr S crn0 0) j = sv S j from if_neg c2, ks, ks, ks, if_neg c2, if_neg c2, if_neg c2]
        exact a6 j (by omega)
    · have hj : j < nc S + 1 := hj
      by_cases c2 : j = nc S
      · rw [c2] at hx
        exact absurd hx (nD d2)
      · obtain ⟨q1, q2, q3, q4, q5⟩ := a7 j (by omega) d2 hd2 ((oD j d2 c2).mp hx)
        refine ⟨q1, by rw [ks, if_neg c2]; exact q2, by rw [amn j d2 c2]; exact q3, by rw [hwn j d2 c2]; exact q4, ?_⟩
        rw [hwn j d2 c2, ks, if_neg c2]
        exact q5
    · show (sl S 0).length ≤ sumTo (nc S) (phN (addCr S crn0 0)) + _
      rw [sum_eq (g := phN S) (fun j hj => phn j (by omega))]
      have := l.1
      omega
    · show (sl S (i + 1)).length ≤ sumTo (nc S) (wl (addCr S crn0 0) i) + _
      rw [sum_eq (g := wl S i) (fun j hj => wln i j (by omega))]
      have := l.2 i hi
      omega
    · have := u i hi
      refine ⟨?_, this.2⟩
      show srvP S i = Int32.ofNat (sumTo (nc S) (srvN (addCr S crn0 0) i) + srvN (addCr S crn0 0) i (nc S))
      rw [sum_eq (g := srvN S i) (fun j hj => srn i j (by omega)), show srvN (addCr S crn0 0) i (nc S) = 0 from if_neg (fun q => nD i q.1)]
      exact this.1
    · obtain ⟨v1, v2, v3, v4⟩ := v
      exact ⟨⟨v1, v2, by show m.2.2.1 < nc S + 1; omega, (oD _ _ (by omega)).mpr v4⟩, rfl⟩
    · exact if_neg (by omega)
    · rw [ks, if_neg (by omega)]
    · have hj : j < nc S + 1 := hj
      exact if_pos (by omega)
  · rw [if_neg c] at e
    exact absurd e (by intro q; cases q)
theorem Jv.give {j0 d0 : Nat} {ing a : Int32} (h : Jv t (bM ω δ) δ S [] ms) (hj0 : j0 < nc S) (hd0 : d0 < nk S) (hi : isN (ing + 1) 1 4) (ha : isN a 1 20) {v : Int32} {S1 : St} {new : List Ms} (e : givesP S j0 d0 ing a = .inl (v, S1, new)) : Jv t (bM ω (δ + 1)) (δ + 1) S1 [] (ms ++ new) := by
  unfold givesP at e
  by_cases c : sc S j0 0 = 0
  · rw [if_pos c] at e
    by_cases cD : isD S j0 d0
    · rw [if_pos cD] at e
      exact absurd e (by intro q; cases q)
    · rw [if_neg cD] at e
      cases e
      rw [List.append_nil]
      obtain ⟨⟨a1, a2, a3, a4, a5, a6, a7⟩, l, u⟩ := h.1
      have d6 : d0 < 6 := by omega
      have ne : ∀ j y, j ≠ j0 ∨ y < 4 + 4 * d0 ∨ 8 + 4 * d0 ≤ y → sc (setD S j0 d0 (ing + 1) a 0 (-1)) j y = sc S j y := fun j y q => setD_ne q
      obtain ⟨e0, e1, e2, e3⟩ := setD_at (S := S) (j := j0) (d := d0) (v0 := ing + 1) (v1 := a) (v2 := 0) (v3 := -1)
      have ip : 0 < ing + 1 := by
        have q := hi.1
        rw [q, show (0 : Int32) = Int32.ofNat 0 from rfl, i_lt (by decide) (by have := hi.2.2; omega)]
        exact hi.2.1
      have nD : isD (setD S j0 d0 (ing + 1) a 0 (-1)) j0 d0 := by
        show 0 < sc (setD S j0 d0 (ing + 1) a 0 (-1)) j0 (4 + 4 * d0)
        rw [e0]; exact ip
      have nq : ∀ {j d : Nat} (x : Nat), x < 4 → ¬ (j = j0 ∧ d = d0) → j ≠ j0 ∨ 4 + 4 * d + x < 4 + 4 * d0 ∨ 8 + 4 * d0 ≤ 4 + 4 * d + x := fun {j d} x hx q => by
        by_cases cj : j = j0
        · right
          have : d ≠ d0 := fun e => q ⟨cj, e⟩
          omega
        · exact Or.inl cj
      have oD : ∀ j d, ¬ (j = j0 ∧ d = d0) → (isD (setD S j0 d0 (ing + 1) a 0 (-1)) j d ↔ isD S j d) := fun j d q => by
        show 0 < sc (setD S j0 d0 (ing + 1) a 0 (-1)) j (4 + 4 * d) ↔ _
        rw [ne j (4 + 4 * d) (nq 0 (by decide) q)]
      have hwn : ∀ j d, ¬ (j = j0 ∧ d = d0) → hw (setD S j0 d0 (ing + 1) a 0 (-1)) j d = hw S j d := fun j d q => ne j _ (nq 2 (by decide) q)
      have amn : ∀ j d, ¬ (j = j0 ∧ d = d0) → am (setD S j0 d0 (ing + 1) a 0 (-1)) j d = am S j d := fun j d q => ne j _ (nq 1 (by decide) q)
      have sx : ∀ j x, x < 4 → sc (setD S j0 d0 (ing + 1) a 0 (-1)) j x = sc S j x := fun j x hx => ne j x (Or.inr (Or.inl (by omega)))
      have phn : ∀ j, phN (setD S j0 d0 (ing + 1) a 0 (-1)) j = phN S j := fun j => by
        unfold phN
        rw [sx j 0 (by decide)]
      have wln : ∀ i j, wl (setD S j0 d0 (ing + 1) a 0 (-1)) i j = wl S i j := fun i j => by
        unfold wl
        by_cases q : j = j0 ∧ i = d0
        · obtain ⟨q1, q2⟩ := q
          subst q1; subst q2
          rw [if_pos nD, if_neg cD]
          show lineN (sc _ j (4 + 4 * i + 2)) = 0
          rw [e2]; rfl
        · rw [hwn j i q]
          by_cases y : isD S j i
          · rw [if_pos y, if_pos ((oD j i q).mpr y)]
          · rw [if_neg y, if_neg (fun z => y ((oD j i q).mp z))]
      have srn : ∀ i j, srvN (setD S j0 d0 (ing + 1) a 0 (-1)) i j = srvN S i j := fun i j => by
        unfold srvN
        by_cases q : j = j0 ∧ i = d0
        · obtain ⟨q1, q2⟩ := q
          subst q1; subst q2
          rw [if_neg (fun z => by
            have z2 : sc (setD S j i (ing + 1) a 0 (-1)) j (4 + 4 * i + 2) = 3 := z.2
            rw [e2] at z2
            exact absurd z2 (by decide)), if_neg (fun z => cD z.1)]
        · rw [hwn j i q, amn j i q]
          by_cases y : isD S j i ∧ hw S j i = 3
          · rw [if_pos y, if_pos ⟨(oD j i q).mpr y.1, y.2⟩]
          · rw [if_neg y, if_neg (fun z => y ⟨(oD j i q).mp z.1, z.2⟩)]
      have dkn : ∀ j, j ≠ j0 → (dks (setD S j0 d0 (ing + 1) a 0 (-1)) j).length = (dks S j).length := fun j hj => by
        rw [dks_sum, dks_sum]
        refine sum_eq (fun i _ => ?_)
        unfold cI
        have q : ¬ (j = j0 ∧ i = d0) := fun e => hj e.1
        by_cases y : isD S j i
        · rw [if_pos y, if_pos ((oD j i q).mpr y)]
        · rw [if_neg y, if_neg (fun z => y ((oD j i q).mp z))]
      have dk0 : (dks (setD S j0 d0 (ing + 1) a 0 (-1)) j0).length = (dks S j0).length + 1 := by
        rw [dks_sum, dks_sum]
        refine sum_set d6 ?_ (fun i _ hne => ?_)
        · show (if isD (setD S j0 d0 (ing + 1) a 0 (-1)) j0 d0 then 1 else 0) = (if isD S j0 d0 then 1 else 0) + 1
          rw [if_pos nD, if_neg cD]
        · unfold cI
          have q : ¬ (j0 = j0 ∧ i = d0) := fun e => hne e.2
          by_cases y : isD S j0 i
          · rw [if_pos y, if_pos ((oD j0 i q).mpr y)]
          · rw [if_neg y, if_neg (fun z => y ((oD j0 i q).mp z))]
      have p1 : PN (setD S j0 d0 (ing + 1) a 0 (-1)) = PN S + 2 := by
        refine sum_set hj0 ?_ (fun j _ hne => by rw [phn, dkn j hne])
        rw [phn, dk0, phN0 c]; omega
      have d1 : DN (setD S j0 d0 (ing + 1) a 0 (-1)) = DN S + 1 := sum_set hj0 dk0 (fun j _ hne => dkn j hne)
      have hDl := h.2.2.2.2.2
      refine h.grow (S1 := setD S j0 d0 (ing + 1) a 0 (-1)) ⟨⟨a1, a2, a3, a4, a5, fun j hj => ?_, fun j hj d2 hd2 hx => ?_⟩, ⟨?_, fun i hi => ?_⟩, fun i hi => ?_⟩ (fun m v => ?_) (fun j hj i hi => ⟨fun q => ⟨rfl, sx j 0 (by decide)⟩, fun q => absurd hj q⟩) (fun k hk => by have := bM_d (ω := ω) (δ := δ) k hk; rw [p1]; omega) (by rw [d1]; omega)
      · unfold CoI
        rw [sx j 0 (by decide), sx j 1 (by decide), sx j 2 (by decide)]
        exact a6 j hj
      · by_cases q : j = j0 ∧ d2 = d0
        · obtain ⟨q1, q2⟩ := q
          subst q1; subst q2
          refine ⟨hd0, by rw [e0]; exact hi, ?_, ?_, ?_⟩
          · show isN (sc _ j (4 + 4 * d2 + 1)) 1 20
            rw [e1]; exact ha
          · show isHow (sc _ j (4 + 4 * d2 + 2))
            rw [e2]; exact Or.inl rfl
          · left
            exact e2
        · obtain ⟨q1, q2, q3, q4, q5⟩ := a7 j hj d2 hd2 ((oD j d2 q).mp hx)
          refine ⟨q1, by rw [ne j (4 + 4 * d2) (nq 0 (by decide) q)]; exact q2, by rw [amn j d2 q]; exact q3, by rw [hwn j d2 q]; exact q4, ?_⟩
          rw [hwn j d2 q, ne j _ (nq 3 (by decide) q)]
          exact q5
      · show (sl S 0).length ≤ sumTo (nc S) (phN (setD S j0 d0 (ing + 1) a 0 (-1)))
        rw [sum_eq (g := phN S) (fun j _ => phn j)]
        exact l.1
      · show (sl S (i + 1)).length ≤ sumTo (nc S) (wl (setD S j0 d0 (ing + 1) a 0 (-1)) i)
        rw [sum_eq (g := wl S i) (fun j _ => wln i j)]
        exact l.2 i hi
      · have := u i hi
        refine ⟨?_, this.2⟩
        show srvP S i = Int32.ofNat (sumTo (nc S) (srvN (setD S j0 d0 (ing + 1) a 0 (-1)) i))
        rw [sum_eq (g := srvN S i) (fun j _ => srn i j)]
        exact this.1
      · obtain ⟨v1, v2, v3, v4⟩ := v
        refine ⟨⟨v1, v2, v3, ?_⟩, rfl⟩
        by_cases q : m.2.2.1 = j0 ∧ m.2.1 = d0
        · rw [q.1, q.2]; exact nD
        · exact (oD _ _ q).mpr v4
  · rw [if_neg c] at e
    exact absurd e (by intro q; cases q)
end I6
