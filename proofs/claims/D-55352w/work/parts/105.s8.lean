/-! words, digits -/
def isPre (r : List Nat) : Bool := (List.range 6).any (fun i => r.isPrefixOf (wd i))
def isWord (r : List Nat) : Bool := (List.range 6).any (fun i => r == wd i)
theorem pre_ok : ∀ w : Fin 6, ∀ k : Fin 7, ∀ c : Fin 26, mt WORDS ([32] ++ (wd w.val).take k.val ++ [97 + c.val]) = isPre ((wd w.val).take k.val ++ [97 + c.val]) := by decide +kernel
theorem word_ok : ∀ w : Fin 6, ∀ k : Fin 7, 0 < k.val → mt WORDS ([32] ++ (wd w.val).take k.val ++ [32]) = isWord ((wd w.val).take k.val) := by decide +kernel
theorem wd_len : ∀ w : Fin 6, (wd w.val).length ≤ 6 := by decide
theorem pre_take {r : List Nat} (h : isPre r = true) : ∃ w : Fin 6, ∃ k : Fin 7, r = (wd w.val).take k.val := by
  unfold isPre at h
  obtain ⟨i, hi, hp⟩ := List.any_eq_true.mp h
  have i6 := List.mem_range.mp hi
  have e := List.isPrefixOf_iff_prefix.mp hp
  have l := e.length_le
  have l6 := wd_len ⟨i, i6⟩
  exact ⟨⟨i, i6⟩, ⟨r.length, by have : (wd i).length ≤ 6 := l6; omega⟩, List.prefix_iff_eq_take.mp e⟩
theorem pre_mt {r : List Nat} {c : Nat} (h : isPre r = true) (h1 : 97 ≤ c) (h2 : c ≤ 122) : mt WORDS ([32] ++ r ++ [c]) = isPre (r ++ [c]) := by
  obtain ⟨w, k, e⟩ := pre_take h
  have := pre_ok w k ⟨c - 97, by omega⟩
  have e2 : 97 + (c - 97) = c := by omega
  simp only [e2] at this
  rw [e]; exact this
theorem word_mt {r : List Nat} (h : isPre r = true) (h1 : 0 < r.length) : mt WORDS ([32] ++ r ++ [32]) = isWord r := by
  obtain ⟨w, k, e⟩ := pre_take h
  have k0 : 0 < k.val := by
    rcases Nat.eq_zero_or_pos k.val with q | q
    · rw [q, List.take_zero] at e
      rw [e] at h1; exact absurd h1 (Nat.lt_irrefl _)
    · exact q
  rw [e]
  exact word_ok w k k0
theorem pre_len {r : List Nat} (h : isPre r = true) : r.length ≤ 6 := by
  obtain ⟨w, k, e⟩ := pre_take h
  rw [e, List.length_take]
  have := k.isLt
  omega
def wdL (l : List Nat) : Nat → List Nat → Nat → (List Nat × Nat) ⊕ Nat
  | 0, _, p => .inr p
  | n + 1, r, p => if 97 ≤ hr l p ∧ hr l p ≤ 122 then (if isPre (r ++ [hr l p]) = true then wdL l n (r ++ [hr l p]) (p + 1) else .inr p) else .inl (r, p)
def isDg (l : List Nat) (p : Nat) : Bool := decide (48 ≤ hr l p ∧ hr l p ≤ 57)
section S8
variable {γ : GP} {G G1 : AH} {q s cd a p : Nat} {l : List Nat}
theorem hr_in (h : hr l p ≠ 10) : p < l.length := by
  unfold hr at h
  rcases Nat.lt_or_ge p l.length with d | d
  · exact d
  · rw [if_neg (by omega)] at h
    exact absurd rfl h
theorem RdR.isDigit (h : RdR γ G q s cd a l p) : f_X17_isDigit γ q G = some ((if isDg l p = true then 1 else 0), G) := by
  have hB := h.hrB
  unfold f_X17_isDigit isDg
  rw [if_pos h.1, h.here, bI_s]
  by_cases c : hr l p < 48
  · rw [if_pos (show Int32.ofNat (hr l p) < (48 : Int32) by rw [show (48 : Int32) = Int32.ofNat 48 from rfl, i_lt (by omega) (by decide)]; exact c), rtN_z (Or.inl rfl), decide_eq_false (by omega), if_neg (by decide)]
  · rw [if_neg (show ¬ Int32.ofNat (hr l p) < (48 : Int32) by rw [show (48 : Int32) = Int32.ofNat 48 from rfl, i_lt (by omega) (by decide)]; exact c), if_pos h.1, h.here, bI_s]
    by_cases c2 : 57 < hr l p
    · rw [if_pos (show (57 : Int32) < Int32.ofNat (hr l p) by rw [show (57 : Int32) = Int32.ofNat 57 from rfl, i_lt (by decide) (by omega)]; exact c2), rtN_z (Or.inl rfl), decide_eq_false (by omega), if_neg (by decide)]
    · rw [if_neg (show ¬ (57 : Int32) < Int32.ofNat (hr l p) by rw [show (57 : Int32) = Int32.ofNat 57 from rfl, i_lt (by decide) (by omega)]; exact c2), rtN_z (Or.inr rfl), decide_eq_true (by omega), if_pos rfl]
theorem X17_take {β : Type} {Q : β → Prop} {w aw : Nat} {W : List Nat} {T : Nat → AH → Option β} {K : AH → Option β} (h : RdR γ G q s cd a l p) (hw : Wf G) (hc : Cn γ G) (h0 : StrX γ G w 0 aw W) (hwq : w ≤ γ.2) (haw : aw ≤ γ.2) (hne : ∀ c ∈ W, c ≠ 10)
    (kk : match tk l W p with
      | .inl p1 => ∀ g, RdR γ g q s cd a l p1 → Fr (fun b => b = q) G g → Wf g → hS g = hS G → hM g = hM G → wp (K g) Q
      | .inr p1 => ∀ e g, RdE γ G q 1 10 p1 e g → wp (T e g) Q) : wp (bXV (f_X17_takeAll γ q w G) T K) Q := by
  unfold f_X17_takeAll
  exact takeLoop h0 hwq haw hne FU 0 p G (by have := h0.2.2.2.2.2.1; show _ < 4294967296; omega) (Nat.zero_le _) h hw hc h0 (Fr.refl _ _) rfl rfl kk
theorem X17_digit {β : Type} {Q : β → Prop} {T : Nat → AH → Option β} {K : Int32 → AH → Option β} (h : RdR γ G q s cd a l p) (hw : Wf G) (hc : Cn γ G)
    (kk : match digP l p with
      | .inl (d, p1) => ∀ g, RdR γ g q s cd a l p1 → Fr (fun b => b = q) G g → Wf g → hS g = hS G → hM g = hM G → wp (K (Int32.ofNat d) g) Q
      | .inr p1 => ∀ e g, RdE γ G q 1 10 p1 e g → wp (T e g) Q) : wp (bXI (f_X17_digit γ q G) T K) Q := by
  have hB := h.hrB
  unfold f_X17_digit
  rw [if_pos h.1, h.isDigit, bI_s, if_pos h.1]
  unfold digP at kk
  unfold isDg
  by_cases c : 48 ≤ hr l p ∧ hr l p ≤ 57
  · rw [if_pos c] at kk
    rw [decide_eq_true c, if_pos rfl, need_ok (by decide), gI_ok (okf h.1 (by decide)), h.2.2.2.1, i_one]
    have hp : p < l.length := hr_in (by omega)
    have hmv := h.move hw hp
    unfold pI
    rw [if_pos ⟨okw h.1 (by decide) h.2.1, rfl, rfl⟩]
    dsimp only
    rw [gR_ok (okf hmv.1 (by decide)), gI_ok (okf hmv.1 (by decide)), hmv.2.2.1, hmv.2.2.2.1, if_pos hmv.2.2.2.2.1.1, show (1 : Int32) = Int32.ofNat 1 from rfl, i_sub (by omega), Nat.add_sub_cancel, hmv.2.2.2.2.1.charAt hp, bI_s, show (48 : Int32) = Int32.ofNat 48 from rfl]
    have e : nd l p = hr l p := by unfold hr; rw [if_pos hp]
    rw [e, i_sub (by omega)]
    exact kk _ hmv ((Fr.refl _ _).sI (Or.inl rfl)) hw.sI rfl rfl
  · rw [if_neg c] at kk
    rw [decide_eq_false c, if_neg (show ¬ (false = true) by decide)]
    have main := need_no (Q := fun r => ∃ e g, r = .inr (e, g) ∧ RdE γ G q 1 10 p e g) (K := fun g3 => gI g3 q 128 fun v6 => pI γ g3 q 128 (v6 + (1 : Int32)) fun g7 => gR g7 q 127 fun v8 => gI g7 q 128 fun v9 => bI ((if hK g7 v8 = 7 then f_J7_charAt γ v8 (v9 - (1 : Int32)) g7 else none)) fun v11 g10 => (some (.inl ((v11 - (48 : Int32)), g10)))) (T := fun e12 g13 => (thr e12 g13)) h hw hc rfl (fun e g z1 z2 z3 z4 z5 z6 => wp_some ⟨e, g, rfl, z1, z2.mono (fun _ _ q => q.elim), z3, by omega, by omega, by omega⟩)
    obtain ⟨r, er, e2, g, e3, e4⟩ := main
    rw [er, e3]
    exact kk e2 g e4
/-- " " and what was read, in a builder of their own -/
theorem tmp1 {rd C ar : Nat} {r : List Nat} {β : Type} {Q : β → Prop} {K : Nat → AH → Option β} (hb : Sbx γ G rd 0 C ar r) (hw : Wf G) (hc : Cn γ G) (hs : CnS γ G) (hl : r.length ≤ 20)
    (k : ∀ g C1 a1, Sbx γ g (hS G) 0 C1 a1 ([32] ++ r) → hS G < a1 → Fr (fun _ => False) G g → Wf g → hS g ≤ hS G + 7 → hM g ≤ hM G + 1850 → wp (K (hS G) g) Q) :
    wp (mO G 6 fun q8 g9 => bV (if q8 ≠ 0 then f_J6_init γ q8 g9 else none) fun g10 => bR ((if hK g10 q8 = 6 then f_J6_append γ q8 (γ.1 25) g10 else none)) fun v12 g11 => bR ((if hK g11 v12 = 6 then f_J6_append_4 γ v12 rd g11 else none)) K) Q := by
  have hlt := hc.lt
  have c6 : cInst 6 ≤ 10 := by decide
  refine wp_mO (newSb hw hc (fun g b1 f1 w1 s1 m1 => ?_))
  have F1 := f1.toC hw (fun _ _ q => q.elim)
  have hs1 := hs.keep F1 (fun _ q => q.elim)
  have hc1 := hc.keep F1 (fun _ q => q.elim)
  have hb1 := hb.keep hw F1 (fun q => q) (fun q => q)
  obtain ⟨sa, t1, t2, t3, t4⟩ := hs1.str (i := 25) (by decide) (by decide)
  rw [if_pos b1.1]
  have h25 : γ.1 25 ≠ 0 := by
    have := w1.2 _ (show hK g (γ.1 25) ≠ 0 by rw [t1.1]; decide)
    omega
  refine wp_bR (wp_mono (b1.appS t1 w1 hc1 h25 (by omega) (by decide)) (fun r1 hr1 => ?_))
  obtain ⟨e1, C1, a1, b2, ha, f2, w2, s2, m2⟩ := hr1
  have f12 : Fr (fun _ => False) G r1.2 := f1.trans f2 (fun b e => by
    rcases e with e | e
    · exact Or.inr (by omega)
    · exact Or.inr (by omega))
  have F12 := f12.toC hw (fun _ _ q => q.elim)
  have hc2 := hc.keep F12 (fun _ q => q.elim)
  have hb2 := hb.keep hw F12 (fun q => q) (fun q => q)
  rw [e1, if_pos b2.1]
  refine wp_bR (wp_mono (b2.appB hb2 w2 hc2 (by rw [List.length_append]; show 0 + 1 + r.length ≤ _; omega)) (fun r3 hr3 => ?_))
  obtain ⟨e3, C3, a3, b3, ha3, f3, w3, s3, m3⟩ := hr3
  rw [e3]
  have l2 := f12.1
  have l3 := f2.1
  refine k r3.2 C3 a3 b3 (by rcases ha3 with z | z <;> rcases ha with y | y <;> omega) (f12.trans f3 (fun b e => ?_)) w3 (by omega) (by omega)
  rcases e with e | e
  · exact Or.inr (by omega)
  · rcases ha with y | y
    · exact Or.inr (by omega)
    · exact Or.inr (by omega)
end S8
