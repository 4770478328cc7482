/-! a minute keeps what always holds -/
def bM (ω δ k : Nat) : Nat := (12 - k + ω) * δ
def bN (ω δ k : Nat) : Nat := if k ≤ 9 then (11 - k + ω) * δ else (2 + ω) * δ
def cI (S : St) (i j : Nat) : Nat := if isD S j i then 1 else 0
def Mv (T ω δ k : Nat) (q : St × List Ms) : Prop := ∃ t, Jv t (bM ω δ) δ q.1 [] q.2 ∧ t + k ≤ T ∧ T < 1000000
theorem fo_app {α : Type} {f : Nat → List α → List α} {P : α → Prop} {g : Nat → Nat} (m : Nat) : ∀ (k : Nat) (a : List α), (∀ x, k ≤ x → x < k + m → ∀ l, ∃ Q, f x l = l ++ Q ∧ (∀ y ∈ Q, P y) ∧ Q.length ≤ g x) →
    ∃ Q, fo f m k a = a ++ Q ∧ (∀ y ∈ Q, P y) ∧ Q.length + sumTo k g ≤ sumTo (k + m) g := by
  induction m with
  | zero => intro k a _; exact ⟨[], (List.append_nil a).symm, fun y hy => (by cases hy), by show 0 + sumTo k g ≤ sumTo (k + 0) g; rw [Nat.add_zero]; omega⟩
  | succ m ih =>
    intro k a h
    obtain ⟨Q, e, p, l⟩ := h k (Nat.le_refl _) (by omega) a
    obtain ⟨Q2, e2, p2, l2⟩ := ih (k + 1) (f k a) (fun x h1 h2 => h x (by omega) (by omega))
    refine ⟨Q ++ Q2, ?_, fun y hy => ?_, ?_⟩
    · show fo f m (k + 1) (f k a) = _
      rw [e2, e, List.append_assoc]
    · rcases List.mem_append.mp hy with z | z
      · exact p y z
      · exact p2 y z
    · rw [List.length_append]
      have e3 : sumTo (k + 1) g = sumTo k g + g k := rfl
      rw [show k + (m + 1) = k + 1 + m from by omega]
      omega
theorem sum_swap (n m : Nat) (f : Nat → Nat → Nat) : sumTo n (fun i => sumTo m (f i)) = sumTo m (fun j => sumTo n (fun i => f i j)) := by
  induction n with
  | zero =>
    show 0 = sumTo m (fun _ => 0)
    have := sum_const (n := m) (c := 0) (f := fun _ => 0) (fun _ _ => Nat.le_refl _)
    omega
  | succ n ih =>
    show sumTo n (fun i => sumTo m (f i)) + sumTo m (f n) = sumTo m (fun j => sumTo n (fun i => f i j) + f n j)
    rw [ih]
    clear ih
    induction m with
    | zero => rfl
    | succ m ih => 
      show (sumTo m _ + sumTo n (fun i => f i m)) + (sumTo m (f n) + f n m) = sumTo m _ + (sumTo n (fun i => f i m) + f n m)
      rw [← ih]; omega
theorem sum_mono {n m : Nat} {f : Nat → Nat} (h : n ≤ m) : sumTo n f ≤ sumTo m f := by
  induction m with
  | zero => rw [show n = 0 by omega]; exact Nat.le_refl _
  | succ m ih =>
    by_cases c : n = m + 1
    · rw [c]; exact Nat.le_refl _
    · have := ih (by omega)
      show _ ≤ sumTo m f + f m
      omega
theorem filt_sum (p : Nat → Bool) (n : Nat) : ((List.range n).filter p).length = sumTo n (fun i => if p i = true then 1 else 0) := by
  induction n with
  | zero => rfl
  | succ n ih =>
    rw [List.range_succ, List.filter_append, List.length_append, ih]
    show _ = sumTo n _ + (if p n = true then 1 else 0)
    by_cases c : p n = true
    · rw [List.filter_cons_of_pos c, if_pos c]; rfl
    · rw [List.filter_cons_of_neg c, if_neg c]; rfl
theorem dks_sum {S : St} {j : Nat} : (dks S j).length = sumTo 6 (fun i => cI S i j) := by
  unfold dks
  rw [filt_sum]
  exact sum_eq (fun i _ => by
    unfold cI
    by_cases c : isD S j i
    · rw [if_pos c, if_pos (decide_eq_true c)]
    · rw [if_neg c, if_neg (fun e => c (of_decide_eq_true e))])
section I4
variable {S S1 S2 : St} {t : Nat} {b : Nat → Nat} {δ ω : Nat} {ms rest : List Ms}
theorem Jv.pat {j : Nat} (h : Jv t b δ S [] ms) (hj : j < nc S) : Jv t b δ (patP j (S, ms)).1 [] (patP j (S, ms)).2 := by
  unfold patP
  by_cases c : sg S 3 = 0 ∧ sc S j 0 = 1 ∧ ¬ sg S 0 - sc S j 1 < 12
  · rw [if_pos c]
    exact Jv.decides (old := []) (rest := []) h hj (by rw [phN1 c.2.1]; decide) (Or.inr rfl)
  · rw [if_neg c]
    exact h
theorem Jv.len (h : Jv t b δ S rest ms) : ms.length ≤ b 0 := by
  have := h.2.2.2.2.1 0 (by omega)
  rw [List.countP_append, Nat.add_zero] at this
  have e : ms.countP (dk S t) = ms.length := by
    refine List.countP_eq_length.mpr (fun m hm => ?_)
    have v := (h.2.2.1 m hm).2
    refine decide_eq_true ?_
    have : t + 1 ≤ ar m := v.2.1
    unfold dl
    omega
  omega
theorem jc_of (hb : b 0 < 9000) : JC (fun S r m => ∃ t, Jv t b δ S r m) := by
  refine ⟨fun S m rest ms h => ?_, fun S ms j h hj => ?_, fun S ms h => ?_⟩
  · obtain ⟨t, h⟩ := h
    have l := h.len
    exact ⟨h.1.1.ok h.1.2.1, (h.2.1 m List.mem_cons_self).1, by omega, t, h.arrives⟩
  · obtain ⟨t, h⟩ := h
    have l := h.len
    exact ⟨h.1.1.ok h.1.2.1, by omega, t, h.pat hj⟩
  · obtain ⟨t, h⟩ := h
    have l := h.len
    exact ⟨h.1.1.ok h.1.2.1, by omega⟩
theorem jc_at (hb : b 0 < 9000) : JC (fun S r m => Jv t b δ S r m) := by
  refine ⟨fun S m rest ms h => ?_, fun S ms j h hj => ?_, fun S ms h => ?_⟩
  · have l := h.len
    exact ⟨h.1.1.ok h.1.2.1, (h.2.1 m List.mem_cons_self).1, by omega, h.arrives⟩
  · have l := h.len
    exact ⟨h.1.1.ok h.1.2.1, by omega, h.pat hj⟩
  · have l := h.len
    exact ⟨h.1.1.ok h.1.2.1, by omega⟩
/-- the clock moves on -/
theorem tick_Sk {v : Int32} : Sk S (usg S 0 v) := ⟨rfl, rfl, fun _ => rfl, fun _ _ => rfl, fun _ _ => rfl⟩
theorem tick_IS (h : IS S t) (ht : t + 1 < 1000000) : IS (usg S 0 (sg S 0 + 1)) (t + 1) := by
  obtain ⟨⟨a1, a2, a3, a4, a5, a6, a7⟩, l, u⟩ := h
  refine ⟨⟨⟨?_, ht⟩, a2, a3, a4, a5, fun j hj => ?_, fun j hj d hd hx => ?_⟩, l, u⟩
  · show sg S 0 + 1 = _
    rw [a1.1]
    exact i_add t 1
  · obtain ⟨c1, c2, c3, c4, c5⟩ := a6 j hj
    exact ⟨c1, c2, c3.imp id (fun q => q.up (Nat.le_refl _) (Nat.le_succ _)), c4.imp id (fun q => q.up (Nat.le_refl _) (Nat.le_succ _)), c5⟩
  · obtain ⟨q1, q2, q3, q4, q5⟩ := a7 j hj d hd hx
    exact ⟨q1, q2, q3, q4, q5.imp id (fun q => q.up (Nat.le_refl _) (Nat.le_succ _))⟩
theorem Jv.tick (h : Jv t (bM ω δ) δ S [] ms) (ht : t + 1 < 1000000) :
    Jv (t + 1) (bN ω δ) δ (usg S 0 (sg S 0 + 1)) (ms.filter (isNow (usg S 0 (sg S 0 + 1)))) (ms.filter (fun m => !isNow (usg S 0 (sg S 0 + 1)) m)) := by
  have i1 := tick_IS h.1 ht
  obtain ⟨hS, _, b2, b3, b4, b5⟩ := h
  have nw : ∀ m, isNow (usg S 0 (sg S 0 + 1)) m = true ↔ m.2.2.2 = Int32.ofNat (t + 1) := fun m => by
    unfold isNow
    rw [i1.1.1.1]
    exact ⟨fun q => of_decide_eq_true q, fun q => decide_eq_true q⟩
  have cnt0 : ∀ p : Ms → Bool, (ms.filter (isNow (usg S 0 (sg S 0 + 1))) ++ ms.filter (fun m => !isNow (usg S 0 (sg S 0 + 1)) m)).countP p = ms.countP p := fun p => by
    rw [List.countP_append]
    have := List.countP_eq_countP_filter_add ms p (isNow (usg S 0 (sg S 0 + 1)))
    rw [this]
  refine ⟨i1, fun m hm => ?_, fun m hm => ?_, fun j hj i hi => ?_, fun k hk => ?_, b5⟩
  · obtain ⟨m1, m2⟩ := List.mem_filter.mp hm
    have v := b2 m m1
    refine ⟨v.1, ?_⟩
    rw [(nw m).mp m2]
    exact isN_of (Nat.le_refl _) (Nat.le_refl _) (by omega)
  · obtain ⟨m1, m2⟩ := List.mem_filter.mp hm
    have v := b2 m m1
    refine ⟨v.1, v.2.1, ?_, ?_⟩
    · have v1 := v.2.2.1
      rcases Nat.lt_or_ge (t + 1) (n32 m.2.2.2) with c | c
      · exact c
      · have e : n32 m.2.2.2 = t + 1 := by omega
        have e2 := (nw m).mpr (by rw [v.2.1, e])
        rw [e2] at m2
        exact absurd m2 (by decide)
    · have := v.2.2.2
      omega
  · rw [cnt0]
    have := b3 j hj i hi
    rw [List.nil_append] at this
    exact this
  · rw [cnt0]
    have eP : PN (usg S 0 (sg S 0 + 1)) = PN S := rfl
    have eD : ∀ x, dk (usg S 0 (sg S 0 + 1)) x = dk S x := fun x => rfl
    rw [eP, eD]
    unfold bN
    by_cases c : k ≤ 9
    · rw [if_pos c]
      have := b4 (k + 1) (by omega)
      rw [List.nil_append, show t + (k + 1) = t + 1 + k from by omega] at this
      unfold bM at this
      rw [show 12 - (k + 1) + ω = 11 - k + ω from by omega] at this
      exact this
    · rw [if_neg c]
      have z : ms.countP (dk S (t + 1 + k)) = 0 := by
        refine List.countP_eq_zero.mpr (fun m hm q => ?_)
        have v := b2 m hm
        have q2 := of_decide_eq_true q
        have d := (hS.1.dnB v.1.2.1).2.2
        have : ar m ≤ t + 5 := v.2.2.2
        unfold dl at q2
        split at q2 <;> omega
      rw [z]
      have := b4 10 (by omega)
      unfold bM at this
      rw [show 12 - 10 + ω = 2 + ω from by omega] at this
      omega
theorem allAsk_app : ∃ Q, allAskP S ms = ms ++ Q ∧ (∀ m ∈ Q, ∃ i j, m = mg S 5 i j ∧ i < nk S ∧ j < nc S ∧ isD S j i) ∧ Q.length ≤ sumTo (nk S) (fun i => sumTo (nc S) (cI S i)) := by
  have := fo_app (f := asksC S) (P := fun m => ∃ i j, m = mg S 5 i j ∧ i < nk S ∧ j < nc S ∧ isD S j i) (g := fun i => sumTo (nc S) (cI S i)) (nk S) 0 ms (fun i _ hi l => by
    have h2 := fo_app (f := askT S i) (P := fun m => ∃ i j, m = mg S 5 i j ∧ i < nk S ∧ j < nc S ∧ isD S j i) (g := cI S i) (nc S) 0 l (fun j _ hj l => by
      unfold askT
      by_cases c : dbt S i j = true
      · rw [if_pos c]
        have cd : isD S j i := by
          unfold dbt at c
          exact of_decide_eq_true (Bool.and_eq_true_iff.mp (Bool.and_eq_true_iff.mp c).2).1
        refine ⟨[mg S 5 i j], rfl, fun m hm => ⟨i, j, List.mem_singleton.mp hm, by omega, by omega, cd⟩, ?_⟩
        unfold cI
        rw [if_pos cd]; exact Nat.le_refl _
      · rw [if_neg c]
        exact ⟨[], (List.append_nil l).symm, fun m hm => (by cases hm), Nat.zero_le _⟩)
    obtain ⟨Q, e, p, n⟩ := h2
    rw [Nat.zero_add] at n
    exact ⟨Q, e, p, n⟩)
  obtain ⟨Q, e, p, n⟩ := this
  rw [Nat.zero_add] at n
  exact ⟨Q, e, p, n⟩
theorem ask_DN (h : nk S ≤ 6) : sumTo (nk S) (fun i => sumTo (nc S) (cI S i)) ≤ DN S := by
  rw [sum_swap]
  refine sum_le (fun j _ => ?_)
  rw [dks_sum]
  exact sum_mono h
theorem Jv.asks (h : Jv t (bN ω δ) δ S [] ms) : Jv t (bM ω δ) δ S [] (allAskP S ms) := by
  obtain ⟨Q, e, p, n⟩ := allAsk_app (S := S) (ms := ms)
  have n2 : Q.length ≤ δ := Nat.le_trans n (Nat.le_trans (ask_DN h.1.1.2.1) h.2.2.2.2.2)
  obtain ⟨hS, _, b2, b3, b4, b5⟩ := h
  rw [e]
  refine ⟨hS, fun m hm => (by cases hm), fun m hm => ?_, fun j hj i hi => ?_, fun k hk => ?_, b5⟩
  · rcases List.mem_append.mp hm with q | q
    · exact b2 m q
    · obtain ⟨i, j, e, hi, hj, hx⟩ := p m q
      rw [e]
      exact mg_VmA hS.1 (by decide) hi hj hx
  · have := b3 j hj i hi
    rw [List.nil_append] at this ⊢
    rw [List.countP_append]
    have z : Q.countP (yk i j) = 0 := List.countP_eq_zero.mpr (fun m hm q => by
      obtain ⟨i, j, e, _⟩ := p m hm
      rw [e] at q
      have : (5 : Nat) ≤ 1 := (of_decide_eq_true q).1
      omega)
    omega
  · have := b4 k hk
    rw [List.nil_append] at this ⊢
    rw [List.countP_append]
    unfold bN at this
    unfold bM
    by_cases c : k ≤ 9
    · rw [if_pos c] at this
      have := List.countP_le_length (p := dk S (t + k)) (l := Q)
      rw [show 12 - k + ω = (11 - k + ω) + 1 from by omega, Nat.succ_mul]
      omega
    · rw [if_neg c] at this
      have z : Q.countP (dk S (t + k)) = 0 := List.countP_eq_zero.mpr (fun m hm q => by
        obtain ⟨i, j, e, hi, hj, hx⟩ := p m hm
        rw [e, mg_dk hS.1 hi] at q
        have := of_decide_eq_true q
        have := (hS.1.dnB hi).2.2
        rw [if_pos (Or.inr rfl)] at *
        omega)
      rw [show 12 - k + ω = 2 + ω from by omega]
      omega
theorem Mv.step {T : Nat} (hb : (12 + ω) * δ < 9000) {k : Nat} {q : St × List Ms} (h : Mv T ω δ (k + 1) q) :
    q.2.length ≤ (12 + ω) * δ ∧ preJ (fun S r m => ∃ t, Jv t (bN ω δ) δ S r m) q ∧ Mv T ω δ k (minP q) := by
  obtain ⟨t, h, ht⟩ := h
  have l := h.len
  have k1 := h.tick (by omega)
  have b0 : bN ω δ 0 < 9000 := by
    show (11 + ω) * δ < 9000
    have : (11 + ω) * δ ≤ (12 + ω) * δ := Nat.mul_le_mul_right _ (by omega)
    omega
  have hJ := jc_at (t := t + 1) (b := bN ω δ) (δ := δ) b0
  have k2 : Jv (t + 1) (bN ω δ) δ (minA q).1 [] (minA q).2 := arrJ hJ _ _ k1
  have k3 : Jv (t + 1) (bN ω δ) δ (minB q).1 [] (minB q).2 := patJ_end hJ _ _ _ (by show 0 + nc (minA q).1 ≤ nc (minA q).1; omega) k2
  exact ⟨l, ⟨t + 1, k1⟩, t + 1, k3.asks, by omega⟩
end I4
