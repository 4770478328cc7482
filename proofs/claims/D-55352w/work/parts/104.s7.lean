/-! a digit appended -/
section S7
variable {γ : GP} {G G1 : AH} {x cd C a : Nat} {l : List Nat}
theorem neg_d : ∀ d : Fin 10, ¬ (-(Int32.ofNat d.val) ≤ (-10 : Int32)) ∧ (-100 : Int32) < -(Int32.ofNat d.val) ∧ (-9 : Int32) ≤ -(Int32.ofNat d.val) ∧ -(-(Int32.ofNat d.val)) = Int32.ofNat d.val := by decide
theorem i_pred (n : Nat) : Int32.ofNat (n + 1) + (-1 : Int32) = Int32.ofNat n := by
  have : Int32.ofNat (n + 1) = Int32.ofNat n + 1 := (i_add n 1).symm
  rw [this, Int32.add_assoc]
  show Int32.ofNat n + (1 + -1) = _
  rw [show (1 : Int32) + -1 = 0 from by decide, Int32.add_zero]
theorem Sbx.appD {d : Nat} (h : Sbx γ G x 0 C a l) (hs : CnS γ G) (hw : Wf G) (hc : Cn γ G) (hd : d < 10) (hl : l.length < 110) :
    wp (f_J6_append_2 γ x (Int32.ofNat d) G) (fun r => r.1 = x ∧ ∃ C1 a1, Sbx γ r.2 x 0 C1 a1 (l ++ [48 + d]) ∧ (a1 = a ∨ hS G ≤ a1) ∧ Fr (fun b => b = x ∨ b = a) G r.2 ∧ Wf r.2 ∧ hS r.2 ≤ hS G + 1 ∧ hM r.2 ≤ hM G + 500) := by
  have lx := hw.k h.1 (by decide)
  obtain ⟨n1, n2, n3, n4⟩ := neg_d ⟨d, hd⟩
  unfold f_J6_append_2
  refine wp_bR (wp_ifc h.1 ?_)
  unfold f_J5_append_2
  refine wp_gI (okf h.1 (by decide)) ?_
  have sz : f_J21_stringSize γ (Int32.ofNat d) G = some (Int32.ofNat 1, G) := by
    unfold f_J21_stringSize
    rw [if_neg (i_neg (by omega))]
    show f_J21_stringSize_L16 γ (-(Int32.ofNat d)) 0 (4294967295 + 1) (-10) 1 G = _
    unfold f_J21_stringSize_L16
    rw [if_neg (by decide), if_neg n1]
    rfl
  rw [h.2.2.1, sz, bI_s, i_add]
  refine wp_bV (wp_ifc h.1 (wp_mono (h.room (n := l.length + 1) hw hc (by omega)) (fun r hr => ?_)))
  obtain ⟨C1, a1, h1, hC, ha, f1, w1, s1, m1⟩ := hr
  have hs1 := hs.keep (f1.toC hw (fun b _ e => by rw [e, h.1]; decide)) (fun b e => by rw [e]; exact h.2.1)
  obtain ⟨d1, d2, d3, d4⟩ := hs1.dig
  obtain ⟨k1, k2, k3, k4, k5, k6, k7, k8, k9, k10, k11, k12⟩ := id h1
  have la1 := w1.k k12.1 (by decide)
  have hxa : x ≠ a1 := fun e => by
    have := k12.1
    rw [← e, k1] at this; omega
  rw [show C1 * (0 + 1) = C1 by omega] at k8
  rw [if_pos k1, h1.isLatin, bI_s, if_pos rfl, if_neg (show ¬ ((1 : Int32) = 0) by decide)]
  refine wp_gR (okf k1 (by decide)) ?_
  rw [k7]
  have gc : f_J21_getChars γ (Int32.ofNat d) (Int32.ofNat (l.length + 1)) a1 r = some (Int32.ofNat l.length, sA r a1 l.length (b8 (48 + d))) := by
    unfold f_J21_getChars jn
    dsimp only
    rw [if_pos (show (0 : Int32) ≤ Int32.ofNat d by rw [show (0 : Int32) = Int32.ofNat 0 from rfl, i_le (by decide) (by omega)]; omega), if_pos rfl]
    show f_J21_getChars_L22 γ a1 0 _ (4294967295 + 1) _ _ r = _
    unfold f_J21_getChars_L22
    rw [if_pos n2, gA_ok (by rw [n4]; exact okx d1 d2 (by omega) (by decide)), n4, i_nat (by omega), d4 d hd, i_pred, pA_ok (okxw k12.1 k8 (by omega) (by omega) k11), i_nat (by omega), vN_b8, if_pos n3, if_pos rfl]
  rw [gc, bI_s]
  refine wp_pI ⟨okw (G := sA r a1 _ _) k1 (by decide) k2, rfl, rfl⟩ (wp_some (wp_some ⟨rfl, C1, a1, ⟨k1, k2, ?_, ?_, by decide, ?_, k7, by show hL r a1 = _; omega, by rw [List.length_append]; exact hC, k10, k11, ?_⟩, ha, ?_, (w1.sA).sI, s1, m1⟩))
  · rw [hI_sI, if_pos ⟨rfl, rfl⟩, List.length_append]; rfl
  · rw [hI_sI, if_neg (by omega)]; exact k4
  · rw [hI_sI, if_neg (by omega)]; exact k6
  · refine k12.snoc (n := 0) (by decide) (show 48 + d < if (0 : Nat) = 0 then 256 else 65536 by rw [if_pos rfl]; omega) k12.1 (fun i hi => ?_) (fun _ => ?_) (fun q => absurd q (by decide))
    · show hA (sA r a1 l.length (b8 (48 + d))) a1 i = _
      rw [hA_sA, if_neg (by omega)]
    · show hA (sA r a1 l.length (b8 (48 + d))) a1 l.length = _
      rw [hA_sA, if_pos ⟨rfl, rfl⟩]
  · exact ((f1.mono (fun b _ e => Or.inl e)).sA (by rcases ha with q | q; exact Or.inl (Or.inr q); exact Or.inr q)).sI (Or.inl (Or.inl rfl))
end S7
/-! the Reader -/
def hr (l : List Nat) (p : Nat) : Nat := if p < l.length then nd l p else 10
def RdR (γ : GP) (G : AH) (q s cd a : Nat) (l : List Nat) (p : Nat) : Prop := hK G q = 34 ∧ γ.2 < q ∧ hR G 127 q = s ∧ hI G 128 q = Int32.ofNat p ∧ StrX γ G s cd a l ∧ p ≤ l.length ∧ l.length ≤ 60
def TxE (γ : GP) (g : AH) (e p : Nat) : Prop := hK g e = 35 ∧ γ.2 < e ∧ hI g 129 e = Int32.ofNat p
def tk (l : List Nat) : List Nat → Nat → Nat ⊕ Nat
  | [], p => .inl p
  | c :: s, p => if hr l p = c then tk l s (p + 1) else .inr p
def digP (l : List Nat) (p : Nat) : (Nat × Nat) ⊕ Nat := if 48 ≤ hr l p ∧ hr l p ≤ 57 then .inl (hr l p - 48, p + 1) else .inr p
def whoP (l : List Nat) (p : Nat) : (Int32 × Nat) ⊕ Nat := if hr l p = 104 then (match tk l [104, 111, 115, 116] p with | .inl p1 => .inl (-1, p1) | .inr e => .inr e) else (match digP l p with | .inl (d, p1) => .inl (Int32.ofNat d, p1) | .inr e => .inr e)
section S7B
variable {γ : GP} {G G1 : AH} {q s cd a p : Nat} {l : List Nat}
theorem RdR.keep {P : Nat → Prop} (h : RdR γ G q s cd a l p) (hw : Wf G) (hF : Fc P G G1) (h1 : ¬ P q) (h2 : ¬ P s) (h3 : ¬ P a) : RdR γ G1 q s cd a l p := by
  obtain ⟨k1, k2, k3, k4, k5, k6, k7⟩ := h
  have lq := hw.k k1 (by decide)
  exact ⟨by rw [hF.kind lq]; exact k1, k2, by rw [hF.rR lq h1 (by decide)]; exact k3, by rw [hF.rI lq h1]; exact k4, k5.keep hw hF h2 h3, k6, k7⟩
theorem RdR.hrB (h : RdR γ G q s cd a l p) : hr l p < 65536 := by
  unfold hr
  split
  · exact h.2.2.2.2.1.lt (by assumption)
  · decide
theorem RdR.here (h : RdR γ G q s cd a l p) : f_X17_here γ q G = some (Int32.ofNat (hr l p), G) := by
  have hB := h.hrB
  obtain ⟨k1, k2, k3, k4, k5, k6, k7⟩ := h
  unfold f_X17_here
  rw [gI_ok (okf k1 (by decide)), gR_ok (okf k1 (by decide)), k3, k4, if_pos k5.1, k5.len, bI_s]
  unfold hr at hB ⊢
  by_cases c : p < l.length
  · rw [if_pos c] at hB ⊢
    rw [if_neg (fun e => by have := (i_le (by omega) (by omega)).mp e; omega), gR_ok (okf k1 (by decide)), gI_ok (okf k1 (by decide)), k3, k4, if_pos k5.1, k5.charAt c, bI_s, rtN_char hB]
  · rw [if_neg c, if_pos ((i_le (by omega) (by omega)).mpr (by omega))]
    rfl
theorem need_ok {β : Type} {z : Int32} {T : Nat → AH → Option β} {K : AH → Option β} (hz : z ≠ 0) : bXV (f_X17_need γ q z G) T K = K G := by
  unfold f_X17_need
  rw [if_neg hz]
  rfl
theorem exC35 : exC 35 := by unfold exC; decide
theorem need_no {β : Type} {z : Int32} {Q : β → Prop} {T : Nat → AH → Option β} {K : AH → Option β} (h : RdR γ G q s cd a l p) (hw : Wf G) (hc : Cn γ G) (hz : z = 0)
    (k : ∀ e g, TxE γ g e p → Fr (fun _ => False) G g → Wf g → hS G ≤ e → hS g = hS G + 1 → hM g ≤ hM G + 10 → wp (T e g) Q) : wp (bXV (f_X17_need γ q z G) T K) Q := by
  obtain ⟨n1, n2, n3, n4⟩ := newObj (c := 35) (n := cInst 35) hw
  have hlt := hc.lt
  have lq := hw.k h.1 (by decide)
  have c10 : cInst 35 ≤ 10 := by decide
  unfold f_X17_need
  rw [if_pos hz]
  have main : wp (mO G 35 fun q1 g2 => gI g2 q 128 fun v3 => bV (if q1 ≠ 0 then f_X18_init γ q1 v3 g2 else none) fun g4 => (tw γ g4 q1 (thr q1 g4) : Option (AH ⊕ (Nat × AH)))) (fun r => ∃ e g, r = .inr (e, g) ∧ TxE γ g e p ∧ Fr (fun _ => False) G g ∧ Wf g ∧ hS G ≤ e ∧ hS g = hS G + 1 ∧ hM g ≤ hM G + 10) := by
    have kq : hK (nO G 35 (cInst 35)) q = 34 := by rw [hK_nO, if_neg (by omega)]; exact h.1
    refine wp_mO (wp_gI (okf kq (by decide)) (wp_bV ?_))
    rw [if_pos n4, (n1.2.2.2 q lq (fun e => e)).1, h.2.2.2.1]
    unfold f_X18_init
    refine wp_bV ?_
    rw [if_pos n4]
    unfold f_J10_init_4
    refine wp_bV ?_
    rw [if_pos n4]
    refine wp_mono (J9_init_4 n2 n3 exC35 hlt (by rw [hR_nO, if_pos rfl])) (fun r hr => wp_some ?_)
    obtain ⟨r1, r2, r3, r4⟩ := hr
    have kr : hK r (hS G) = 35 := by rw [(r1.2.2.1 (hS G) (Nat.lt_succ_self _)).1]; exact n3
    refine wp_pI ⟨okw kr (by decide) hlt, rfl, rfl⟩ (wp_some ?_)
    have f1 : Fr (fun _ => False) G r := n1.trans r1 (fun b e => Or.inr (by rw [e]; exact Nat.le_refl _))
    unfold tw
    rw [if_pos ⟨by show hK r (hS G) ≠ 0; rw [kr]; decide, by show hK r (hS G) < 100; rw [kr]; decide, hlt⟩]
    refine ⟨_, rfl, hS G, _, rfl, ⟨kr, hlt, ?_⟩, f1.sI (Or.inr (Nat.le_refl _)), r2.sI, Nat.le_refl _, r3, ?_⟩
    · rw [hI_sI, if_pos ⟨rfl, rfl⟩]
    · show hM r ≤ _
      rw [r4]
      show hM G + cInst 35 ≤ _
      omega
  obtain ⟨r, er, e, g, e1, e2, e3, e4, e5, e6, e7⟩ := main
  rw [er, e1]
  exact k e g e2 e3 e4 e5 e6 e7
/-- what a reading step ends in: the reader moved on, or a TextError -/
def RdE (γ : GP) (G : AH) (q : Nat) (c m p : Nat) (e : Nat) (g : AH) : Prop := TxE γ g e p ∧ Fr (fun b => b = q) G g ∧ Wf g ∧ hS G ≤ e ∧ hS g ≤ hS G + c ∧ hM g ≤ hM G + m
theorem RdR.move (h : RdR γ G q s cd a l p) (hw : Wf G) (hp : p < l.length) : RdR γ (sI G 128 q (Int32.ofNat (p + 1))) q s cd a l (p + 1) := by
  obtain ⟨k1, k2, k3, k4, k5, k6, k7⟩ := h
  have k5' := k5.keep hw (((Fr.refl (fun b => b = q) G).sI (f := 128) (a := q) (v := Int32.ofNat (p + 1)) (Or.inl rfl)).toC hw (fun b _ e => by rw [e, k1]; decide)) (fun e => by have := k5.1; rw [e, k1] at this; omega) (fun e => by have := k5.2.2.2.2.2.2.1; rw [e, k1] at this; omega)
  exact ⟨k1, k2, k3, by rw [hI_sI, if_pos ⟨rfl, rfl⟩], k5', hp, k7⟩
theorem takeLoop {β : Type} {Q : β → Prop} {w aw : Nat} {W : List Nat} {T : Nat → AH → Option β} {K : AH → Option β} (h0 : StrX γ G w 0 aw W) (hwq : w ≤ γ.2) (haw : aw ≤ γ.2) (hne : ∀ c ∈ W, c ≠ 10) (n : Nat) : ∀ (k p : Nat) (G1 : AH), W.length - k < n → k ≤ W.length → RdR γ G1 q s cd a l p → Wf G1 → Cn γ G1 → StrX γ G1 w 0 aw W → Fr (fun b => b = q) G G1 → hS G1 = hS G → hM G1 = hM G →
    (match tk l (W.drop k) p with
      | .inl p1 => ∀ g, RdR γ g q s cd a l p1 → Fr (fun b => b = q) G g → Wf g → hS g = hS G → hM g = hM G → wp (K g) Q
      | .inr p1 => ∀ e g, RdE γ G q 1 10 p1 e g → wp (T e g) Q) →
    wp (bXV (f_X17_takeAll_L2 γ q w n (Int32.ofNat k) G1) T K) Q := by
  induction n with
  | zero => intro k p G1 h; exact absurd h (Nat.not_lt_zero _)
  | succ n ih =>
    intro k p G1 hn hk hR1 hw hc hW hF hs hm kk
    unfold f_X17_takeAll_L2
    rw [if_pos hW.1, hW.len, bI_s]
    have h9 := hW.2.2.2.2.2.1
    by_cases c : W.length ≤ k
    · rw [if_pos ((i_le (by omega) (by omega)).mpr c)]
      rw [List.drop_eq_nil_of_le c] at kk
      exact kk G1 hR1 hF hw hs hm
    · rw [if_neg (fun e => c ((i_le (by omega) (by omega)).mp e)), if_pos hR1.1, hR1.here, bI_s, if_pos hW.1, hW.charAt (by omega), bI_s]
      have hB := hR1.hrB
      have hB2 := hW.lt (i := k) (by omega)
      have ed : W.drop k = nd W k :: W.drop (k + 1) := by
        rw [nd_get (by omega)]; exact List.drop_eq_getElem_cons (by omega)
      rw [ed] at kk
      unfold tk at kk
      unfold jn
      dsimp only
      by_cases e : hr l p = nd W k
      · rw [if_pos e] at kk
        rw [if_pos (by rw [e]), if_pos hR1.1]
        have hp : p < l.length := by
          rcases Nat.lt_or_ge p l.length with d | d
          · exact d
          · exfalso
            unfold hr at e
            rw [if_neg (by omega)] at e
            exact hne _ (nd_mem (by omega : k < W.length)) e.symm
        have hmv := hR1.move hw hp
        have f2 : Fr (fun b => b = q) G1 (sI G1 128 q (Int32.ofNat (p + 1))) := (Fr.refl _ _).sI (Or.inl rfl)
        have fc2 := f2.toC hw (fun b _ e => by rw [e, hR1.1]; decide)
        have lq := hR1.2.1
        have go := ih (k + 1) (p + 1) (sI G1 128 q (Int32.ofNat (p + 1))) (by omega) (by omega) hmv hw.sI (hc.keep fc2 (fun b e => by rw [e]; exact lq)) (hW.keep hw fc2 (by omega) (by omega)) (hF.trans f2 (fun _ e => Or.inl e)) hs hm kk
        obtain ⟨r, er, hq⟩ := go
        refine ⟨r, ?_, hq⟩
        rw [← er]
        rw [need_ok (γ := γ) (q := q) (G := G1) (z := 1) (by decide), gI_ok (okf hR1.1 (by decide)), hR1.2.2.2.1, i_one]
        unfold pI
        rw [if_pos ⟨okw hR1.1 (by decide) lq, rfl, rfl⟩, i_one]
      · rw [if_neg e] at kk
        rw [if_neg (fun q => e ((i_eq (by omega) (by omega)).mp q)), if_pos hR1.1]
        have lf := hF.1
        have main := need_no (Q := fun r => ∃ e g, r = .inr (e, g) ∧ RdE γ G q 1 10 p e g) (K := fun g11 => gI g11 q 128 fun v14 => pI γ g11 q 128 (v14 + (1 : Int32)) fun g15 => f_X17_takeAll_L2 γ q w n (Int32.ofNat k + (1 : Int32)) g15) (T := fun e12 g13 => (thr e12 g13)) hR1 hw hc rfl (fun e g z1 z2 z3 z4 z5 z6 => wp_some ⟨e, g, rfl, z1, hF.trans z2 (fun _ q => q.elim), z3, by omega, by omega, by omega⟩)
        obtain ⟨r, er, e2, g, e3, e4⟩ := main
        rw [er, e3]
        exact kk e2 g e4
end S7B
