/-! the single changes keep what always holds -/
def IS (S : St) (t : Nat) : Prop := IA S t ∧ IL S ∧ IU S
def Jv (t : Nat) (b : Nat → Nat) (δ : Nat) (S : St) (rest ms : List Ms) : Prop :=
  IS S t ∧ (∀ m ∈ rest, VmA S t t m) ∧ (∀ m ∈ ms, VmA S (t + 1) (t + 5) m) ∧ IY S (rest ++ ms) ∧ IB S (rest ++ ms) t b ∧ DN S ≤ δ
theorem sum_set {n k x : Nat} {f g : Nat → Nat} (hk : k < n) (h1 : g k = f k + x) (h : ∀ j, j < n → j ≠ k → g j = f j) : sumTo n g = sumTo n f + x := by
  induction n with
  | zero => omega
  | succ n ih =>
    show sumTo n g + g n = sumTo n f + f n + x
    by_cases c : k = n
    · subst c
      have := sum_eq (n := k) (f := g) (g := f) (fun j hj => h j (by omega) (by omega))
      omega
    · have a := ih (by omega) (fun j hj => h j (by omega))
      have b := h n (by omega) (by omega)
      omega
section I2
variable {S S1 S2 : St} {t : Nat}
theorem bec_sc {j d x y : Nat} {v line : Int32} : sc (becomesP S j d v line) x y = if x = j ∧ y = 4 + 4 * d + 3 then sg S 0 else if x = j ∧ y = 4 + 4 * d + 2 then v else sc S x y := rfl
theorem bec_sl {j d w : Nat} {v line : Int32} : sl (becomesP S j d v line) w = if w = d + 1 then sl S (d + 1) ++ [(line, Int32.ofNat j, sg S 0)] else sl S w := rfl
theorem bec_hw {j d x y : Nat} {v line : Int32} : hw (becomesP S j d v line) x y = if x = j ∧ y = d then v else hw S x y := by
  show sc (becomesP S j d v line) x (4 + 4 * y + 2) = _
  rw [bec_sc, if_neg (by omega)]
  by_cases c : x = j ∧ y = d
  · rw [if_pos c, if_pos ⟨c.1, by omega⟩]
  · rw [if_neg c, if_neg (fun e => c ⟨e.1, by omega⟩)]
    rfl
theorem bec_Sk {j d : Nat} {v line : Int32} : Sk S (becomesP S j d v line) :=
  ⟨rfl, rfl, fun _ => rfl, fun j2 d2 => by rw [bec_sc, if_neg (by omega), if_neg (by omega)], fun j2 d2 => by
    show sc (becomesP S j d v line) j2 (4 + 4 * d2 + 1) = _
    rw [bec_sc, if_neg (by omega), if_neg (by omega)]
    rfl⟩
theorem bec_ph {j d x : Nat} {v line : Int32} : sc (becomesP S j d v line) x 0 = sc S x 0 := by rw [bec_sc, if_neg (by omega), if_neg (by omega)]
theorem bec_IA {j d : Nat} {v line : Int32} (a : IA S t) (hv : isHow v) : IA (becomesP S j d v line) t := by
  obtain ⟨a1, a2, a3, a4, a5, a6, a7⟩ := a
  refine ⟨a1, a2, a3, a4, a5, fun j2 hj2 => ?_, fun j2 hj2 d2 hd2 hx => ?_⟩
  · obtain ⟨c1, c2, c3, c4, c5⟩ := a6 j2 hj2
    unfold CoI
    rw [bec_ph, show sc (becomesP S j d v line) j2 1 = sc S j2 1 by rw [bec_sc, if_neg (by omega), if_neg (by omega)], show sc (becomesP S j d v line) j2 2 = sc S j2 2 by rw [bec_sc, if_neg (by omega), if_neg (by omega)]]
    exact ⟨c1, c2, c3, c4, c5⟩
  · obtain ⟨q1, q2, q3, q4, q5⟩ := a7 j2 hj2 d2 hd2 ((bec_Sk (S := S)).isD.mp hx)
    refine ⟨q1, by rw [bec_Sk.2.2.2.1]; exact q2, by rw [bec_Sk.2.2.2.2]; exact q3, ?_, ?_⟩
    · rw [bec_hw]; split
      · exact hv
      · exact q4
    · rw [bec_hw, bec_sc]
      by_cases c : j2 = j ∧ d2 = d
      · right
        rw [if_pos ⟨c.1, by omega⟩, a1.1]
        exact isN_of (Nat.zero_le _) (Nat.le_refl _) (by omega)
      · rw [if_neg c, if_neg (fun e => c ⟨e.1, by omega⟩), if_neg (by omega)]
        exact q5
theorem bec_wl {j d i x : Nat} {v line : Int32} : wl (becomesP S j d v line) i x = if x = j ∧ i = d then (if isD S j d then lineN v else 0) else wl S i x := by
  unfold wl
  rw [bec_hw]
  have e := (bec_Sk (S := S) (j := j) (d := d) (v := v) (line := line)).isD (j := x) (d := i)
  by_cases c : x = j ∧ i = d
  · rw [if_pos c, if_pos c]
    obtain ⟨c1, c2⟩ := c
    subst c1; subst c2
    by_cases y : isD S x i
    · rw [if_pos y, if_pos (e.mpr y)]
    · rw [if_neg y, if_neg (fun q => y (e.mp q))]
  · rw [if_neg c, if_neg c]
    by_cases y : isD S x i
    · rw [if_pos y, if_pos (e.mpr y)]
    · rw [if_neg y, if_neg (fun q => y (e.mp q))]
theorem bec_IL {j d : Nat} {v line : Int32} (l : IL S) (hj : j < nc S) (hx : isD S j d) (hl : lineN (hw S j d) + 1 ≤ lineN v) : IL (becomesP S j d v line) := by
  refine ⟨?_, fun i hi => ?_⟩
  · rw [bec_sl, if_neg (by omega)]
    show _ ≤ sumTo (nc S) (phN (becomesP S j d v line))
    rw [sum_eq (g := phN S) (fun j2 _ => by unfold phN; rw [bec_ph])]
    exact l.1
  · rw [bec_sl]
    show _ ≤ sumTo (nc S) (wl (becomesP S j d v line) i)
    have li := l.2 i hi
    by_cases c : i = d
    · subst c
      rw [if_pos rfl, List.length_append]
      have := sum_up (n := nc S) (k := j) (x := 1) (f := wl S i) (g := wl (becomesP S j i v line) i) hj (by
        rw [bec_wl, if_pos ⟨rfl, rfl⟩, if_pos hx]
        unfold wl
        rw [if_pos hx]; exact hl) (fun j2 _ hne => by rw [bec_wl, if_neg (fun e => hne e.1)]; exact Nat.le_refl _)
      show (sl S (i + 1)).length + 1 ≤ _
      omega
    · rw [if_neg (by omega), sum_eq (g := wl S i) (fun j2 _ => by rw [bec_wl, if_neg (fun e => c e.2)])]
      exact li
theorem bec_srvN {j d i x : Nat} {v line : Int32} (h3 : hw S j d ≠ 3) (v3 : v ≠ 3) : srvN (becomesP S j d v line) i x = srvN S i x := by
  have e := (bec_Sk (S := S) (j := j) (d := d) (v := v) (line := line)).isD (j := x) (d := i)
  unfold srvN
  rw [bec_hw, bec_Sk.2.2.2.2]
  by_cases c : x = j ∧ i = d
  · rw [if_pos c, if_neg (fun q => v3 q.2), if_neg (fun q => h3 (by rw [← c.1, ← c.2]; exact q.2))]
  · rw [if_neg c]
    by_cases y : isD S x i ∧ hw S x i = 3
    · rw [if_pos y, if_pos ⟨e.mpr y.1, y.2⟩]
    · rw [if_neg y, if_neg (fun q => y ⟨e.mp q.1, q.2⟩)]
theorem bec_IU {j d : Nat} {v line : Int32} (u : IU S) (h3 : hw S j d ≠ 3) (v3 : v ≠ 3) : IU (becomesP S j d v line) := by
  intro i hi
  have := u i hi
  refine ⟨?_, this.2⟩
  show srvP S i = Int32.ofNat (sumTo (nc S) (srvN (becomesP S j d v line) i))
  rw [sum_eq (g := srvN S i) (fun j2 _ => bec_srvN h3 v3)]
  exact this.1
theorem bec_IS {j d : Nat} {v line : Int32} (h : IS S t) (hj : j < nc S) (hx : isD S j d) (hv : isHow v) (hl : lineN (hw S j d) + 1 ≤ lineN v) (h3 : hw S j d ≠ 3) (v3 : v ≠ 3) : IS (becomesP S j d v line) t :=
  ⟨bec_IA h.1 hv, bec_IL h.2.1 hj hx hl, bec_IU h.2.2 h3 v3⟩
theorem srvP_eq {i : Nat} : srvP S i = 0 + sk S i 11 + sk S i 12 + sk S i 13 + sk S i 14 := rfl
theorem sub_sub32 {a b c : Int32} : a - b - c = a - (b + c) := by
  rw [Int32.sub_eq_add_neg, Int32.sub_eq_add_neg, Int32.sub_eq_add_neg, Int32.neg_add, Int32.sub_eq_add_neg, Int32.add_assoc]
theorem serve_IS {j d g : Nat} (h : IS S t) (hj : j < nc S) (hd : d < nk S) (hx : isD S j d) (h1 : hw S j d = 1) (hg : g < 4) : IS (servesP (becomesP S j d 3 5) d g (am S j d)) t := by
  obtain ⟨a, l, u⟩ := h
  have a' := bec_IA (j := j) (d := d) (v := 3) (line := 5) a (Or.inr (Or.inr (Or.inr (Or.inl rfl))))
  have l' := bec_IL (v := 3) (line := 5) l hj hx (by rw [h1]; decide)
  obtain ⟨a1, a2, a3, a4, a5, a6, a7⟩ := a'
  have ks : ∀ i x, sk (servesP (becomesP S j d 3 5) d g (am S j d)) i x = if i = d ∧ x = 11 + g then sk S d (11 + g) + am S j d else if i = d ∧ x = 3 + g then sk S d (3 + g) - am S j d else sk S i x := by
    intro i x
    show sk (usk (usk (becomesP S j d 3 5) d (3 + g) (sk S d (3 + g) - am S j d)) d (11 + g) (sk S d (11 + g) + am S j d)) i x = _
    rw [sk_usk, sk_usk]
    rfl
  have h6 := a.2.1
  refine ⟨⟨a1, a2, a3, a4, fun i hi => ?_, a6, a7⟩, l', fun i hi => ?_⟩
  · have := a5 i hi
    rw [ks, ks, if_neg (by omega), if_neg (by omega), if_neg (by omega), if_neg (by omega)]
    exact this
  · have ui := u i hi
    have hDi := (a.2.2.2.2.2.2 j hj d (by omega) hx).2.2.1
    have eN : ∀ x, srvN (servesP (becomesP S j d 3 5) d g (am S j d)) i x = srvN (becomesP S j d 3 5) i x := fun x => rfl
    have eB : ∀ x, srvN (becomesP S j d 3 5) i x = if x = j ∧ i = d then n32 (am S j d) else srvN S i x := by
      intro x
      have e := (bec_Sk (S := S) (j := j) (d := d) (v := 3) (line := 5)).isD (j := x) (d := i)
      unfold srvN
      rw [bec_hw, bec_Sk.2.2.2.2]
      by_cases c : x = j ∧ i = d
      · rw [if_pos c, if_pos c]
        obtain ⟨c1, c2⟩ := c
        subst c1; subst c2
        rw [if_pos ⟨e.mpr hx, rfl⟩]
      · rw [if_neg c, if_neg c]
        by_cases y : isD S x i ∧ hw S x i = 3
        · rw [if_pos y, if_pos ⟨e.mpr y.1, y.2⟩]
        · rw [if_neg y, if_neg (fun q => y ⟨e.mp q.1, q.2⟩)]
    have e11 : ∀ y, y < 4 → sk (servesP (becomesP S j d 3 5) d g (am S j d)) i (11 + y) = if i = d ∧ y = g then sk S i (11 + y) + am S j d else sk S i (11 + y) := by
      intro y hy
      rw [ks]
      by_cases c : i = d ∧ y = g
      · rw [if_pos ⟨c.1, by omega⟩, if_pos c, c.1, c.2]
      · rw [if_neg (fun e => c ⟨e.1, by omega⟩), if_neg (fun e => by omega), if_neg c]
    have e3 : ∀ y, y < 4 → sk (servesP (becomesP S j d 3 5) d g (am S j d)) i (3 + y) = if i = d ∧ y = g then sk S i (3 + y) - am S j d else sk S i (3 + y) := by
      intro y hy
      rw [ks, if_neg (fun e => by omega)]
      by_cases c : i = d ∧ y = g
      · rw [if_pos ⟨c.1, by omega⟩, if_pos c, c.1, c.2]
      · rw [if_neg (fun e => c ⟨e.1, by omega⟩), if_neg c]
    have e7 : ∀ y, y < 4 → sk (servesP (becomesP S j d 3 5) d g (am S j d)) i (7 + y) = sk S i (7 + y) := fun y hy => by
      rw [ks, if_neg (fun e => by omega), if_neg (fun e => by omega)]
    refine ⟨?_, fun y hy => ?_⟩
    · show srvP (servesP (becomesP S j d 3 5) d g (am S j d)) i = Int32.ofNat (sumTo (nc S) (srvN (servesP (becomesP S j d 3 5) d g (am S j d)) i))
      rw [srvP_eq, show (11 : Nat) = 11 + 0 from rfl, e11 0 (by decide), show (12 : Nat) = 11 + 1 from rfl, e11 1 (by decide), show (13 : Nat) = 11 + 2 from rfl, e11 2 (by decide), show (14 : Nat) = 11 + 3 from rfl, e11 3 (by decide)]
      by_cases c : i = d
      · have es : sumTo (nc S) (srvN (servesP (becomesP S j d 3 5) d g (am S j d)) i) = sumTo (nc S) (srvN S i) + n32 (am S j d) := sum_set hj (by
          rw [eN, eB, if_pos ⟨rfl, c⟩]
          unfold srvN
          rw [if_neg (fun q => by rw [c, h1] at q; exact absurd q.2 (by decide))]; omega) (fun x _ hne => by rw [eN, eB, if_neg (fun e => hne e.1)])
        rw [es, ← i_add, ← hDi.1, ← ui.1, srvP_eq]
        have hgg : g = 0 ∨ g = 1 ∨ g = 2 ∨ g = 3 := by omega
        rcases hgg with e | e | e | e <;> subst e
        · rw [if_pos ⟨c, rfl⟩, if_neg (by omega), if_neg (by omega), if_neg (by omega)]
          ac_rfl
        · rw [if_neg (by omega), if_pos ⟨c, rfl⟩, if_neg (by omega), if_neg (by omega)]
          ac_rfl
        · rw [if_neg (by omega), if_neg (by omega), if_pos ⟨c, rfl⟩, if_neg (by omega)]
          ac_rfl
        · rw [if_neg (by omega), if_neg (by omega), if_neg (by omega), if_pos ⟨c, rfl⟩]
          ac_rfl
      · rw [if_neg (by omega), if_neg (by omega), if_neg (by omega), if_neg (by omega), sum_eq (g := srvN S i) (fun x _ => by rw [eN, eB, if_neg (fun e => c e.2)])]
        exact ui.1
    · rw [e3 y hy, e7 y hy, e11 y hy]
      have := ui.2 y hy
      by_cases c : i = d ∧ y = g
      · rw [if_pos c, if_pos c, this, sub_sub32]
      · rw [if_neg c, if_neg c, this]
theorem set_sc {j x y : Nat} {v : Int32} : sc (settlesP S j v) x y = if x = j ∧ y = 2 then sg S 0 else if x = j ∧ y = 0 then v else sc S x y := rfl
theorem set_Sk {j : Nat} {v : Int32} : Sk S (settlesP S j v) :=
  ⟨rfl, rfl, fun _ => rfl, fun j2 d2 => by rw [set_sc, if_neg (by omega), if_neg (by omega)], fun j2 d2 => by
    show sc (settlesP S j v) j2 (4 + 4 * d2 + 1) = _
    rw [set_sc, if_neg (by omega), if_neg (by omega)]
    rfl⟩
theorem set_hw {j x y : Nat} {v : Int32} : hw (settlesP S j v) x y = hw S x y := by
  show sc (settlesP S j v) x (4 + 4 * y + 2) = _
  rw [set_sc, if_neg (by omega), if_neg (by omega)]
  rfl
theorem set_ph {j x : Nat} {v : Int32} : sc (settlesP S j v) x 0 = if x = j then v else sc S x 0 := by
  rw [set_sc, if_neg (by omega)]
  by_cases c : x = j
  · rw [if_pos c, if_pos ⟨c, rfl⟩]
  · rw [if_neg c, if_neg (fun e => c e.1)]
theorem set_PN {j : Nat} {v : Int32} (hj : j < nc S) (hp : phN S j ≤ 1) (hv : v = 2 ∨ v = 3) : PN (settlesP S j v) + (dks S j).length ≤ PN S := by
  refine sum_up (k := j) hj ?_ (fun j2 _ hne => ?_)
  · have e : phN (settlesP S j v) j = 2 := by
      unfold phN
      rw [set_ph, if_pos rfl]
      rcases hv with e | e <;> rw [e] <;> decide
    rw [e, set_Sk.dks]
    have : (2 - phN S j) * (dks S j).length ≥ 1 * (dks S j).length := Nat.mul_le_mul_right _ (by omega)
    omega
  · have e : phN (settlesP S j v) j2 = phN S j2 := by
      unfold phN
      rw [set_ph, if_neg hne]
    rw [e, set_Sk.dks]
    exact Nat.le_refl _
theorem set_IS {j : Nat} {v : Int32} (h : IS S t) (hj : j < nc S) (hp : phN S j ≤ 1) (hv : v = 2 ∨ v = 3) : IS (settlesP S j v) t := by
  obtain ⟨⟨a1, a2, a3, a4, a5, a6, a7⟩, l, u⟩ := h
  refine ⟨⟨a1, a2, a3, a4, a5, fun x hx => ?_, fun x hx d hd hxd => ?_⟩, ⟨?_, fun i hi => ?_⟩, fun i hi => ?_⟩
  · obtain ⟨c1, c2, c3, c4, c5⟩ := a6 x hx
    unfold CoI
    rw [set_ph, show sc (settlesP S j v) x 1 = sc S x 1 by rw [set_sc, if_neg (by omega), if_neg (by omega)], set_sc]
    by_cases c : x = j
    · rw [if_pos c, if_pos ⟨c, rfl⟩, a1.1]
      refine ⟨c1, ?_, c3, Or.inr (isN_of (Nat.zero_le _) (Nat.le_refl _) (by omega)), fun e => ?_⟩
      · rcases hv with e | e <;> rw [e]
        · exact isN_of (a := 2) (by decide) (by decide) (by decide)
        · exact isN_of (a := 3) (by decide) (by decide) (by decide)
      · rcases hv with e2 | e2 <;> rw [e2] at e <;> exact absurd e (by decide)
    · rw [if_neg c, if_neg (fun e => c e.1), if_neg (fun e => c e.1)]
      exact ⟨c1, c2, c3, c4, c5⟩
  · obtain ⟨q1, q2, q3, q4, q5⟩ := a7 x hx d hd ((set_Sk (S := S)).isD.mp hxd)
    refine ⟨q1, by rw [set_Sk.2.2.2.1]; exact q2, by rw [set_Sk.2.2.2.2]; exact q3, by rw [set_hw]; exact q4, ?_⟩
    rw [set_hw, set_sc, if_neg (by omega), if_neg (by omega)]
    exact q5
  · show (sl S 0 ++ [_]).length ≤ sumTo (nc S) (phN (settlesP S j v))
    rw [List.length_append]
    have := sum_up (n := nc S) (k := j) (x := 1) (f := phN S) (g := phN (settlesP S j v)) hj (by
      have e : phN (settlesP S j v) j = 2 := by
        unfold phN
        rw [set_ph, if_pos rfl]
        rcases hv with e | e <;> rw [e] <;> decide
      rw [e]; omega) (fun j2 _ hne => by unfold phN; rw [set_ph, if_neg hne]; exact Nat.le_refl _)
    have := l.1
    show (sl S 0).length + 1 ≤ _
    omega
  · have e : sl (settlesP S j v) (i + 1) = sl S (i + 1) := by
      show (if i + 1 = 0 then sl S 0 ++ [(if v = 2 then 1 else 2, Int32.ofNat j, sg S 0)] else sl S (i + 1)) = _
      rw [if_neg (by omega)]
    rw [e]
    show _ ≤ sumTo (nc S) (wl (settlesP S j v) i)
    rw [sum_eq (g := wl S i) (fun x _ => by
      unfold wl
      rw [set_hw]
      by_cases y : isD S x i
      · rw [if_pos y, if_pos ((set_Sk (S := S)).isD.mpr y)]
      · rw [if_neg y, if_neg (fun q => y ((set_Sk (S := S)).isD.mp q))])]
    exact l.2 i hi
  · have := u i hi
    refine ⟨?_, this.2⟩
    show srvP S i = Int32.ofNat (sumTo (nc S) (srvN (settlesP S j v) i))
    rw [sum_eq (g := srvN S i) (fun x _ => by
      unfold srvN
      rw [set_hw, set_Sk.2.2.2.2]
      by_cases y : isD S x i ∧ hw S x i = 3
      · rw [if_pos y, if_pos ⟨(set_Sk (S := S)).isD.mpr y.1, y.2⟩]
      · rw [if_neg y, if_neg (fun q => y ⟨(set_Sk (S := S)).isD.mp q.1, q.2⟩)])]
    exact this.1
theorem usv_IS {j n : Nat} (h : IS S t) (hn : n < 64) : IS (usv S j n) t := by
  obtain ⟨⟨a1, a2, a3, a4, a5, a6, a7⟩, l, u⟩ := h
  refine ⟨⟨a1, a2, a3, a4, a5, fun x hx => ?_, a7⟩, l, u⟩
  obtain ⟨c1, c2⟩ := a6 x hx
  refine ⟨?_, c2⟩
  rw [sv_usv]
  split
  · exact hn
  · exact c1
theorem usv_Sk {j n : Nat} : Sk S (usv S j n) := ⟨rfl, rfl, fun _ => rfl, fun _ _ => rfl, fun _ _ => rfl⟩
theorem lost_IS {v : Int32} (h : IS S t) : IS (usg S 4 v) t := h
theorem lost_Sk {v : Int32} : Sk S (usg S 4 v) := ⟨rfl, rfl, fun _ => rfl, fun _ _ => rfl, fun _ _ => rfl⟩
/-- a step: old messages gone, new ones on their way -/
theorem Jv.step {b : Nat → Nat} {δ : Nat} {old rest ms new : List Ms} (h : Jv t b δ S (old ++ rest) ms) (hs : Sk S S1) (h1 : IS S1 t) (hn : ∀ m ∈ new, VmA S (t + 1) (t + 5) m)
    (hY : ∀ j, j < nc S → ∀ i, i < 6 → new.countP (yk i j) + bitN (sv S1 j) i + (if sc S j 0 = 0 then 0 else 1) ≤ old.countP (yk i j) + bitN (sv S j) i + (if sc S1 j 0 = 0 then 0 else 1))
    (hB : ∀ k, k ≤ 10 → new.countP (dk S (t + k)) + PN S1 ≤ old.countP (dk S (t + k)) + PN S) : Jv t b δ S1 rest (ms ++ new) := by
  obtain ⟨_, b1, b2, b3, b4, b5⟩ := h
  refine ⟨h1, fun m hm => hs.VmA (b1 m (List.mem_append_right _ hm)), fun m hm => ?_, fun j hj i hi => ?_, fun k hk => ?_, by rw [hs.DN]; exact b5⟩
  · rcases List.mem_append.mp hm with q | q
    · exact hs.VmA (b2 m q)
    · exact hs.VmA (hn m q)
  · rw [hs.2.1] at hj
    have y := b3 j hj i hi
    have z := hY j hj i hi
    rw [List.countP_append, List.countP_append] at y
    rw [List.countP_append, List.countP_append]
    omega
  · have y := b4 k hk
    have z := hB k hk
    rw [List.countP_append, List.countP_append] at y
    rw [hs.dk, List.countP_append, List.countP_append]
    omega
end I2
