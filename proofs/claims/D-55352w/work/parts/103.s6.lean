/-! appended Strings and digits; a String within another -/
section S6
variable {γ : GP} {G G1 : AH} {x cd C a : Nat} {l : List Nat}
theorem nd_app3 {l m : List Nat} {i : Nat} : nd (l ++ m) i = if i < l.length then nd l i else nd m (i - l.length) := by
  unfold nd
  by_cases c : i < l.length
  · rw [if_pos c, List.getD_eq_getElem?_getD, List.getD_eq_getElem?_getD, List.getElem?_append_left c]
  · rw [if_neg c, List.getD_eq_getElem?_getD, List.getD_eq_getElem?_getD, List.getElem?_append_right (by omega)]
theorem Sbx.appS {s b : Nat} {m : List Nat} (h : Sbx γ G x 0 C a l) (hs : StrX γ G s 0 b m) (hw : Wf G) (hc : Cn γ G) (s0 : s ≠ 0) (hba : b ≠ a) (hl : l.length + m.length ≤ 110) :
    wp (f_J6_append γ x s G) (fun r => r.1 = x ∧ ∃ C1 a1, Sbx γ r.2 x 0 C1 a1 (l ++ m) ∧ (a1 = a ∨ hS G ≤ a1) ∧ Fr (fun b => b = x ∨ b = a) G r.2 ∧ Wf r.2 ∧ hS r.2 ≤ hS G + 1 ∧ hM r.2 ≤ hM G + 500) := by
  have lx := hw.k h.1 (by decide)
  have ls := hw.k hs.1 (by decide)
  have lb := hw.k hs.2.2.2.2.2.2.1 (by decide)
  have hsx : s ≠ x := fun e => by
    have := hs.1
    rw [e, h.1] at this; omega
  have hbx : b ≠ x := fun e => by
    have := hs.2.2.2.2.2.2.1
    rw [e, h.1] at this; omega
  unfold f_J6_append
  refine wp_bR (wp_ifc h.1 ?_)
  unfold f_J5_append
  rw [if_neg s0, if_pos hs.1, hs.len, bI_s]
  refine wp_gI (okf h.1 (by decide)) ?_
  rw [h.2.2.1, i_add]
  refine wp_bV (wp_ifc h.1 (wp_mono (h.room (n := l.length + m.length) hw hc hl) (fun r hr => ?_)))
  obtain ⟨C1, a1, h1, hC, ha, f1, w1, s1, m1⟩ := hr
  have hs1 := hs.keep hw (f1.toC hw (fun b _ e => by rw [e, h.1]; decide)) (by omega) (by omega)
  have hb1 : b ≠ a1 := by rcases ha with q | q <;> omega
  have h1' := h1
  obtain ⟨k1, k2, k3, k4, k5, k6, k7, k8, k9, k10, k11, k12⟩ := h1'
  obtain ⟨t1, t2, t3, t4, t5, t6, t7⟩ := hs1
  have la1 := w1.k k12.1 (by decide)
  have hxa : x ≠ a1 := fun e => by
    have := k12.1
    rw [← e, k1] at this; omega
  refine wp_gI (okf k1 (by decide)) ?_
  rw [k3]
  unfold f_J5_putStringAt f_J5_inflateIfNeededFor f_J7_getBytes f_J7_coder
  rw [if_pos k1, if_pos k1, if_neg (show ¬ ((1 : Int32) = 0) by decide), gI_ok (okf k1 (by decide)), k6, if_pos t1, if_neg (show ¬ ((1 : Int32) = 0) by decide), gI_ok (okf t1 (by decide)), t3, rtN_b (v := Int32.ofNat 0) (Or.inl rfl), bI_s, if_pos rfl, bV_s, gR_ok (okf k1 (by decide)), k7, gI_ok (okf k1 (by decide)), k6, if_pos t1, if_pos t1, if_neg (show ¬ ((1 : Int32) = 0) by decide), gI_ok (okf t1 (by decide)), t3, rtN_b (v := Int32.ofNat 0) (Or.inl rfl), bI_s, if_pos rfl, gR_ok (okf t1 (by decide)), gR_ok (okf t1 (by decide)), t4, gL_ok (by rw [t7.1]; decide), t5, shlc (by decide : 0 ≤ 1), show l.length * (0 + 1) = l.length by omega, show m.length * (0 + 1) = m.length by omega]
  rw [show m.length * (0 + 1) = m.length by omega] at t5
  rw [show C1 * (0 + 1) = C1 by omega] at k8
  unfold nCA
  have okc : okCpy γ r 102 b a1 0 (Int32.ofNat l.length) (Int32.ofNat m.length) := ⟨t7.1, k12.1, k11, by decide, i_neg (by omega), i_neg (by omega), by rw [i_nat (by omega), t5]; show 0 + _ ≤ _; omega, by rw [i_nat (by omega), i_nat (by omega), k8]; omega⟩
  rw [if_pos okc, i_nat (by omega), i_nat (by omega), bV_s, bV_s]
  refine wp_gI (okf (G := sAr r a1 _) k1 (by decide)) ?_
  rw [show hI (sAr r a1 (va_cpy (hA r b) (hA r a1) (Int32.toNatClampNeg 0) l.length m.length)) 25 x = Int32.ofNat l.length from k3, i_add]
  refine wp_pI ⟨okw (G := sAr r a1 _) k1 (by decide) k2, rfl, rfl⟩ (wp_some (wp_some ⟨rfl, C1, a1, ⟨k1, k2, ?_, ?_, by decide, ?_, k7, by show hL r a1 = _; omega, by rw [List.length_append]; exact hC, k10, k11, k12.1, fun i hi => ⟨fun _ => ?_, fun q => absurd q (by decide)⟩⟩, ha, ?_, (w1.sAr).sI, s1, m1⟩))
  · rw [hI_sI, if_pos ⟨rfl, rfl⟩, List.length_append]
  · rw [hI_sI, if_neg (by omega)]; exact k4
  · rw [hI_sI, if_neg (by omega)]; exact k6
  · rw [List.length_append] at hi
    show _ ∧ hA (sAr r a1 (va_cpy (hA r b) (hA r a1) 0 l.length m.length)) a1 i = _
    rw [hA_sAr, if_pos rfl, nd_app3]
    unfold va_cpy
    by_cases c : i < l.length
    · rw [if_pos c, if_neg (by omega)]
      exact (k12.2 i c).1 rfl
    · rw [if_neg c, if_pos ⟨by omega, by omega⟩, Nat.zero_add]
      exact (t7.2 (i - l.length) (by omega)).1 rfl
  · exact ((f1.mono (fun b _ e => Or.inl e)).sAr (by rcases ha with q | q; exact Or.inl (Or.inr q); exact Or.inr q)).sI (Or.inl (Or.inl rfl))
theorem Sbx.appB {y D b : Nat} {m : List Nat} (h : Sbx γ G x 0 C a l) (hs : Sbx γ G y 0 D b m) (hw : Wf G) (hc : Cn γ G) (hl : l.length + m.length ≤ 110) :
    wp (f_J6_append_4 γ x y G) (fun r => r.1 = x ∧ ∃ C1 a1, Sbx γ r.2 x 0 C1 a1 (l ++ m) ∧ (a1 = a ∨ hS G ≤ a1) ∧ Fr (fun b => b = x ∨ b = a) G r.2 ∧ Wf r.2 ∧ hS r.2 ≤ hS G + 4 ∧ hM r.2 ≤ hM G + 1300) := by
  have hlt := hc.lt
  have la := hw.k h.2.2.2.2.2.2.2.2.2.2.2.1 (by decide)
  unfold f_J6_append_4 f_J7_valueOf
  rw [if_neg (show ¬ y = 0 by have := hs.2.1; omega)]
  refine wp_bR (wp_bR (wp_ifc hs.1 (wp_mono (hs.toStr hw hc (by omega)) (fun r hr => wp_some ?_))))
  obtain ⟨r1, cd1, b1, s1, s2, s3, _, f1, w1, q1, q2⟩ := hr
  have e0 := s2 rfl
  subst e0
  have h1 := h.keep hw (f1.toC hw (fun _ _ q => q.elim)) (fun q => q) (fun q => q)
  have hc1 := hc.keep (f1.toC hw (fun _ _ q => q.elim)) (fun _ q => q.elim)
  rw [if_pos h1.1, r1]
  refine wp_bR (wp_mono (h1.appS s1 w1 hc1 (by omega) (by omega) hl) (fun r2 hr2 => wp_some ?_))
  obtain ⟨p1, C1, a1, p2, p3, p4, p5, p6, p7⟩ := hr2
  have l1 := f1.1
  exact ⟨p1, C1, a1, p2, p3.imp id (fun q => Nat.le_trans l1 q), (f1.mono (fun _ _ q => q.elim)).trans p4 (fun b e => Or.inl e), p5, by show hS r2.2 ≤ _; omega, by show hM r2.2 ≤ _; omega⟩
/-- one String within another -/
def mtAt (W s : List Nat) (i : Nat) : Prop := ∀ k, k < s.length → nd W (i + k) = nd s k
def mt (W s : List Nat) : Bool := (List.range (W.length + 1 - s.length)).any (fun i => (List.range s.length).all (fun k => nd W (i + k) == nd s k))
theorem mt_iff {W s : List Nat} (h : s.length ≤ W.length) : mt W s = true ↔ ∃ j, j ≤ W.length - s.length ∧ mtAt W s j := by
  unfold mt mtAt
  rw [List.any_eq_true]
  constructor
  · rintro ⟨i, hi, q⟩
    refine ⟨i, by have := List.mem_range.mp hi; omega, fun k hk => ?_⟩
    exact eq_of_beq (List.all_eq_true.mp q k (List.mem_range.mpr hk))
  · rintro ⟨i, hi, q⟩
    exact ⟨i, List.mem_range.mpr (by omega), List.all_eq_true.mpr (fun k hk => by rw [q k (List.mem_range.mp hk)]; exact beq_self_eq_true _)⟩
theorem ioLoop3 {W s : List Nat} {b : Nat} {x5 : Int32} {K : Int32 → AH → Option (Int32 × AH)} (hW : BytR G a 0 W) (hs : BytR G b 0 s) (lW : hL G a = W.length) (lS : hL G b = s.length) (h9 : W.length ≤ 1000) (h8 : s.length ≤ 1000) {j : Nat} {x6 : Int32} (hj : j + s.length ≤ W.length) (h1 : 1 ≤ s.length) {Q : (Int32 × AH) → Prop} (n : Nat) : ∀ k, s.length - k < n → 1 ≤ k → k ≤ s.length → (∀ i, i < k → nd W (j + i) = nd s i) →
    (∀ e, e ≤ s.length → (e = s.length → mtAt W s j) → (e ≠ s.length → ¬ mtAt W s j) → wp (K (Int32.ofNat (j + e)) G) Q) →
    wp (f_J19_indexOf_2_L76 γ a b (Int32.ofNat s.length) x5 x6 (Int32.ofNat j) (Int32.ofNat (j + s.length)) K n (Int32.ofNat (j + k)) (Int32.ofNat k) G) Q := by
  induction n with
  | zero => intro k h; exact absurd h (Nat.not_lt_zero _)
  | succ n ih =>
    intro k hn hk1 hk hm kk
    unfold f_J19_indexOf_2_L76
    by_cases c : s.length ≤ k
    · rw [if_pos ((i_le (by omega) (by omega)).mpr (by omega))]
      have e : k = s.length := by omega
      exact kk k hk (fun _ i hi => hm i (by omega)) (fun q => absurd e q)
    · rw [if_neg (fun e => c (by have := (i_le (by omega) (by omega)).mp e; omega)), gA_ok (okx hW.1 lW (by omega) (by omega)), gA_ok (okx hs.1 lS (by omega) (by omega)), i_nat (by omega), i_nat (by omega)]
      have bW := (hW.2 (j + k) (by omega)).1 rfl
      have bs := (hs.2 k (by omega)).1 rfl
      rw [bW.2, bs.2]
      refine wp_ite (fun e => ?_) (fun e => ?_)
      · rw [i_one, i_one]
        refine ih (k + 1) (by omega) (by omega) (by omega) (fun i hi => ?_) kk
        by_cases c2 : i = k
        · rw [c2]; exact b8_inj bW.1 bs.1 e
        · exact hm i (by omega)
      · refine kk k hk (fun q => absurd q (by omega)) (fun _ q => e (by rw [q k (by omega)]))
theorem ioLoop2 {W : List Nat} {b f : Nat} {x3 : Int32} {K : Int32 → AH → Option (Int32 × AH)} (hW : BytR G a 0 W) (lW : hL G a = W.length) (h9 : W.length ≤ 1000) {mx : Nat} (hmx : mx < W.length) (hf : f < 256) {Q : (Int32 × AH) → Prop} (n : Nat) : ∀ i, mx + 1 - i < n → i ≤ mx + 1 → 
    (∀ j, i < j → (∀ k, i < k → k < j → nd W k ≠ f) → (j ≤ mx → nd W j = f) → j ≤ mx + 2 → wp (K (Int32.ofNat j) G) Q) →
    wp (f_J19_indexOf_2_L30 γ a b x3 (b8 f) (Int32.ofNat mx) K n (Int32.ofNat i) G) Q := by
  induction n with
  | zero => intro i h; exact absurd h (Nat.not_lt_zero _)
  | succ n ih =>
    intro i hn hi kk
    unfold f_J19_indexOf_2_L30
    rw [i_one]
    by_cases c : mx < i + 1
    · rw [if_pos ((i_lt (by omega) (by omega)).mpr c)]
      exact kk (i + 1) (by omega) (fun k h1 h2 => by omega) (fun q => by omega) (by omega)
    · rw [if_neg (fun e => c ((i_lt (by omega) (by omega)).mp e)), gA_ok (okx hW.1 lW (by omega) (by omega)), i_nat (by omega)]
      have bW := (hW.2 (i + 1) (by omega)).1 rfl
      rw [bW.2]
      refine wp_ite (fun e => ?_) (fun e => ?_)
      · exact kk (i + 1) (by omega) (fun k h1 h2 => by omega) (fun _ => b8_inj bW.1 hf e) (by omega)
      · refine ih (i + 1) (by omega) (by omega) (fun j h1 h2 h3 h4 => kk j (by omega) (fun k q1 q2 => ?_) h3 h4)
        by_cases c2 : k = i + 1
        · rw [c2]; exact fun q => e (by rw [q])
        · exact h2 k (by omega) q2
theorem ioLoop1 {W s : List Nat} {b : Nat} (hW : BytR G a 0 W) (hs : BytR G b 0 s) (lW : hL G a = W.length) (lS : hL G b = s.length) (h9 : W.length ≤ 1000) (h1 : 1 ≤ s.length) (hsW : s.length ≤ W.length) (n : Nat) : ∀ i, W.length - s.length + 1 - i < n → i ≤ W.length - s.length + 3 → (∀ k, k < i → k ≤ W.length - s.length → ¬ mtAt W s k) →
    wp (f_J19_indexOf_2_L14 γ a b (Int32.ofNat s.length) (b8 (nd s 0)) (Int32.ofNat (W.length - s.length)) n (Int32.ofNat i) G) (fun r => r.2 = G ∧ ((r.1 = -1 ∧ ∀ k, k ≤ W.length - s.length → ¬ mtAt W s k) ∨ ∃ j, r.1 = Int32.ofNat j ∧ j ≤ W.length - s.length ∧ mtAt W s j)) := by
  induction n with
  | zero => intro i h; exact absurd h (Nat.not_lt_zero _)
  | succ n ih =>
    intro i hn hi hm
    unfold f_J19_indexOf_2_L14
    by_cases c : W.length - s.length < i
    · rw [if_pos ((i_lt (by omega) (by omega)).mpr c)]
      exact wp_some ⟨rfl, Or.inl ⟨rfl, fun k hk => hm k (by omega) hk⟩⟩
    · rw [if_neg (fun e => c ((i_lt (by omega) (by omega)).mp e)), gA_ok (okx hW.1 lW (by omega) (by omega)), i_nat (by omega)]
      have bW := (hW.2 i (by omega)).1 rfl
      have bs := (hs.2 0 (by omega)).1 rfl
      rw [bW.2]
      refine wp_jn ?_
      have j5 : ∀ y, i ≤ y → (∀ k, k < y → k ≤ W.length - s.length → ¬ mtAt W s k) → (y ≤ W.length - s.length → nd W y = nd s 0) → y ≤ W.length - s.length + 2 →
          wp (if Int32.ofNat (W.length - s.length) < Int32.ofNat y then f_J19_indexOf_2_L14 γ a b (Int32.ofNat s.length) (b8 (nd s 0)) (Int32.ofNat (W.length - s.length)) n (Int32.ofNat y + (1 : Int32)) G else f_J19_indexOf_2_L76 γ a b (Int32.ofNat s.length) (b8 (nd s 0)) (Int32.ofNat (W.length - s.length)) (Int32.ofNat y) (((Int32.ofNat y + (1 : Int32)) + Int32.ofNat s.length) - (1 : Int32)) (fun (y8 : Int32) (g9 : AH) => (if y8 = (((Int32.ofNat y + (1 : Int32)) + Int32.ofNat s.length) - (1 : Int32)) then (some (Int32.ofNat y, g9)) else f_J19_indexOf_2_L14 γ a b (Int32.ofNat s.length) (b8 (nd s 0)) (Int32.ofNat (W.length - s.length)) n (Int32.ofNat y + (1 : Int32)) g9)) FU (Int32.ofNat y + (1 : Int32)) (1 : Int32) G)
          (fun r => r.2 = G ∧ ((r.1 = -1 ∧ ∀ k, k ≤ W.length - s.length → ¬ mtAt W s k) ∨ ∃ j, r.1 = Int32.ofNat j ∧ j ≤ W.length - s.length ∧ mtAt W s j)) := by
        intro y hy hm2 h0 hb
        rw [i_one, i_add, show (1 : Int32) = Int32.ofNat 1 from rfl, i_sub (by omega), show y + 1 + s.length - 1 = y + s.length by omega]
        refine wp_ite (fun e => ?_) (fun e => ?_)
        · rw [i_lt (by omega) (by omega)] at e
          exact ih (y + 1) (by omega) (by omega) (fun k q1 q2 => hm2 k (by omega) q2)
        · rw [i_lt (by omega) (by omega)] at e
          refine ioLoop3 hW hs lW lS h9 (by omega) (by omega) h1 FU 1 (by show _ < 4294967296; omega) (Nat.le_refl _) h1 (fun k hk => by rw [show k = 0 by omega]; exact h0 (by omega)) (fun e2 q1 q2 q3 => ?_)
          refine wp_ite (fun e3 => ?_) (fun e3 => ?_)
          · rw [i_eq (by omega) (by omega)] at e3
            exact wp_some ⟨rfl, Or.inr ⟨y, rfl, by omega, q2 (by omega)⟩⟩
          · rw [i_eq (by omega) (by omega)] at e3
            refine ih (y + 1) (by omega) (by omega) (fun k p1 p2 => ?_)
            by_cases c2 : k = y
            · rw [c2]; exact q3 (by omega)
            · exact hm2 k (by omega) p2
      refine wp_ite (fun e => ?_) (fun e => ?_)
      · exact j5 i (Nat.le_refl _) hm (fun _ => b8_inj bW.1 bs.1 e) (by omega)
      · refine ioLoop2 hW lW h9 (by omega) bs.1 FU i (by show _ < 4294967296; omega) (by omega) (fun j p1 p2 p3 p4 => ?_)
        refine j5 j (by omega) (fun k q1 q2 q3 => ?_) p3 p4
        have z := q3 0 (by omega)
        rw [Nat.add_zero] at z
        rcases Nat.lt_trichotomy k i with t | t | t
        · exact hm k t q2 q3
        · rw [t] at z
          exact e (by rw [z])
        · exact p2 k t q1 z
theorem StrX.contains {W s : List Nat} {y b : Nat} (h : StrX γ G x 0 a W) (k : StrX γ G y 0 b s) (h1 : 1 ≤ s.length) (hsW : s.length ≤ W.length) : f_J7_contains γ x y G = some ((if mt W s = true then 1 else 0), G) := by
  obtain ⟨h1', h2, h3, h4, h5, h6, h7⟩ := id h
  obtain ⟨k1, k2, k3, k4, k5, k6, k7⟩ := id k
  rw [show W.length * (0 + 1) = W.length by omega] at h5
  rw [show s.length * (0 + 1) = s.length by omega] at k5
  unfold f_J7_contains f_J7_toString
  rw [if_pos k1, bR_s, if_pos h1']
  unfold f_J7_indexOf f_J7_coder
  rw [if_pos h1', if_neg (show ¬ ((1 : Int32) = 0) by decide), gI_ok (okf h1' (by decide)), h3, rtN_b (v := Int32.ofNat 0) (Or.inl rfl), bI_s, if_pos k1, if_neg (show ¬ ((1 : Int32) = 0) by decide), gI_ok (okf k1 (by decide)), k3, rtN_b (v := Int32.ofNat 0) (Or.inl rfl), bI_s, if_pos rfl, if_pos h1', h.isLatin, bI_s, if_pos rfl, if_neg (show ¬ ((1 : Int32) = 0) by decide), gR_ok (okf h1' (by decide)), gR_ok (okf k1 (by decide)), h4, k4]
  unfold f_J19_indexOf
  have z : (0 : Int32) = Int32.ofNat 0 := rfl
  rw [gL_ok (by rw [k7.1]; decide), k5, if_neg (by rw [z, i_eq (by omega) (by decide)]; omega), gL_ok (by rw [h7.1]; decide), h5, if_neg (by rw [z, i_eq (by omega) (by decide)]; omega), gL_ok (by rw [h7.1]; decide), gL_ok (by rw [k7.1]; decide), h5, k5]
  unfold f_J19_indexOf_2
  have b0 := (k7.2 0 (by omega)).1 rfl
  have ox : okX G b 102 (0 : Int32) := okx (i := 0) k7.1 k5 (by omega) (by omega)
  rw [gA_ok ox, show (0 : Int32).toNatClampNeg = 0 from rfl, b0.2, i_sub hsW]
  obtain ⟨r, e, e2, e3⟩ := ioLoop1 (γ := γ) h7 k7 h5 k5 h6 h1 hsW FU 0 (by show _ < 4294967296; omega) (by omega) (fun k q => absurd q (Nat.not_lt_zero _))
  rw [show (Int32.ofNat 0) = (0 : Int32) from rfl] at e
  rw [e, bI_s]
  have er : r = (r.1, G) := by rw [← e2]
  rw [er]
  rcases e3 with ⟨q1, q2⟩ | ⟨j, q1, q2, q3⟩
  · have hm : mt W s = false := by
      cases hmm : mt W s
      · rfl
      · obtain ⟨j, j1, j2⟩ := (mt_iff hsW).mp hmm
        exact absurd j2 (q2 j j1)
    rw [hm, q1]
    rfl
  · rw [if_pos ((mt_iff hsW).mpr ⟨j, q2, q3⟩), q1]
    show bI (some (Int32.ofNat j, G)) (fun v4 g3 => if v4 < 0 then rtN FieldType.boolean 0 g3 else rtN FieldType.boolean 1 g3) = _
    rw [bI_s, if_neg (i_neg (by omega)), rtN_z (Or.inr rfl)]
end S6
