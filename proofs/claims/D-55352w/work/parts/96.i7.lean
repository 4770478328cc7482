/-! what minutes cost -/
def k05 (m : Ms) : Bool := decide (m.1 = 0 ∨ m.1 = 5)
def Wt (q : St × List Ms) : Nat := q.2.length + q.2.countP k05 + PN q.1
section I7
variable {S S1 S2 : St} {t : Nat} {b b1 : Nat → Nat} {δ δ1 ω : Nat} {ms rest old new : List Ms}
theorem Wt_app {l : List Ms} : Wt (S, ms ++ l) = Wt (S, ms) + l.length + l.countP k05 := by
  show (ms ++ l).length + (ms ++ l).countP k05 + PN S = (ms.length + ms.countP k05 + PN S) + _ + _
  rw [List.length_append, List.countP_append]; omega
theorem dec_W {j : Nat} {v : Int32} (hj : j < nc S) (hp : phN S j ≤ 1) (hv : v = 2 ∨ v = 3) : (decidesP S j v).2.length + (decidesP S j v).2.countP k05 + PN (decidesP S j v).1 ≤ PN S := by
  have e1 : (decidesP S j v).2.length = (dks S j).length := by
    show (sendsP (settlesP S j v) _ j).length = _
    rw [sends_len, set_Sk.dks]
  have e2 : (decidesP S j v).2.countP k05 = 0 := List.countP_eq_zero.mpr (fun m hm q => by
    obtain ⟨d, hd, e⟩ := List.mem_map.mp hm
    rw [← e] at q
    have q2 : (if v = 2 then 3 else 4) = 0 ∨ (if v = 2 then 3 else 4) = 5 := of_decide_eq_true q
    split at q2 <;> omega)
  have e3 := set_PN hj hp hv
  show _ + _ + PN (settlesP S j v) ≤ _
  omega
theorem hear_PN {d j : Nat} {bb : Bool} : PN (hearsP S d j bb) = PN S := by
  unfold hearsP
  split
  · exact (bec_Sk.trans serve_Sk).PN (fun x _ => by
      unfold phN
      show (if sc (becomesP S j d 3 5) x 0 = 0 then 0 else if sc (becomesP S j d 3 5) x 0 = 1 then 1 else 2) = _
      rw [bec_ph])
  · split
    · exact bec_Sk.PN (fun x _ => by unfold phN; rw [bec_ph])
    · rfl
theorem arr_W {m : Ms} (h : Jv t b δ S (m :: rest) ms) : (arrivesP S m).2.length + (arrivesP S m).2.countP k05 + PN (arrivesP S m).1 ≤ PN S + (if k05 m = true then 1 else 0) := by
  have v := h.2.1 m List.mem_cons_self
  obtain ⟨⟨v1, v2, v3, v4⟩, va⟩ := v
  have nl : ([] : List Ms).length + ([] : List Ms).countP k05 + PN S ≤ PN S + (if k05 m = true then 1 else 0) := by
    rw [List.length_nil, List.countP_nil]; omega
  have count : ∀ bb : Bool, (countsP S m.2.1 m.2.2.1 bb).2.length + (countsP S m.2.1 m.2.2.1 bb).2.countP k05 + PN (countsP S m.2.1 m.2.2.1 bb).1 ≤ PN S + (if k05 m = true then 1 else 0) := by
    intro bb
    unfold countsP
    by_cases c1 : sc S m.2.2.1 0 = 1
    · rw [if_pos c1]
      have p1 : phN S m.2.2.1 ≤ 1 := by rw [phN1 c1]; decide
      by_cases c2 : bb = false
      · rw [if_pos c2]
        have := dec_W v3 p1 (Or.inr rfl : (3 : Int32) = 2 ∨ (3 : Int32) = 3)
        omega
      · rw [if_neg c2]
        by_cases c3 : popc (sv S m.2.2.1 ||| 1 <<< m.2.1) = (dks S m.2.2.1).length
        · rw [if_pos c3]
          have := dec_W (S := usv S m.2.2.1 (sv S m.2.2.1 ||| 1 <<< m.2.1)) (j := m.2.2.1) (v := 2) v3 p1 (Or.inl rfl)
          have e : PN (usv S m.2.2.1 (sv S m.2.2.1 ||| 1 <<< m.2.1)) = PN S := rfl
          omega
        · rw [if_neg c3]
          exact nl
    · rw [if_neg c1]
      exact nl
  have hear : ∀ bb : Bool, ([] : List Ms).length + ([] : List Ms).countP k05 + PN (hearsP S m.2.1 m.2.2.1 bb) ≤ PN S + (if k05 m = true then 1 else 0) := fun bb => by
    rw [hear_PN]; exact nl
  unfold arrivesP
  by_cases c0 : (if toHost m.1 then sg S 3 else sk S m.2.1 1) = 0
  · rw [if_pos c0]
    by_cases k0 : m.1 = 0
    · rw [if_pos k0]
      have ek : (if k05 m = true then 1 else 0) = 1 := if_pos (decide_eq_true (Or.inl k0))
      unfold invitedP
      by_cases c1 : hw S m.2.2.1 m.2.1 = 0
      · rw [if_pos c1, ek]
        have one : ∀ (kd : Nat) (u line : Int32), (kd = 1 ∨ kd = 2) → [mg S kd m.2.1 m.2.2.1].length + [mg S kd m.2.1 m.2.2.1].countP k05 + PN (becomesP S m.2.2.1 m.2.1 u line) ≤ PN S + 1 := fun kd u line hk => by
          rw [c1p, if_neg (fun q => by
            have : kd = 0 ∨ kd = 5 := of_decide_eq_true q
            omega), bec_Sk.PN (fun x _ => by unfold phN; rw [bec_ph])]
          show 1 + 0 + PN S ≤ _
          omega
        by_cases c2 : freeP S m.2.1 (ign S m.2.2.1 m.2.1) < am S m.2.2.1 m.2.1
        · rw [if_pos c2]
          exact one 2 2 4 (Or.inr rfl)
        · rw [if_neg c2]
          exact one 1 1 3 (Or.inl rfl)
      · rw [if_neg c1]
        exact nl
    · rw [if_neg k0]
      by_cases k1 : m.1 = 1
      · rw [if_pos k1]
        exact count true
      · rw [if_neg k1]
        by_cases k2 : m.1 = 2
        · rw [if_pos k2]
          exact count false
        · rw [if_neg k2]
          by_cases k3 : m.1 = 3
          · rw [if_pos k3]
            exact hear true
          · rw [if_neg k3]
            by_cases k4 : m.1 = 4
            · rw [if_pos k4]
              exact hear false
            · rw [if_neg k4]
              have ek : (if k05 m = true then 1 else 0) = 1 := if_pos (decide_eq_true (Or.inr (by omega)))
              unfold answersP
              split
              · exact nl
              · rw [ek, c1p, if_neg (fun q => by
                  have q2 : decn S m.2.2.1 = 0 ∨ decn S m.2.2.1 = 5 := of_decide_eq_true q
                  unfold decn at q2
                  split at q2 <;> omega)]
                show 1 + 0 + PN S ≤ _
                omega
  · rw [if_neg c0]
    exact nl
theorem arrAll_W (hb : b 0 < 9000) (l : List Ms) : ∀ q : St × List Ms, Jv t b δ q.1 l q.2 → Wt (arrAll l q) ≤ Wt q + l.countP k05 := by
  induction l with
  | nil => intro q _; exact Nat.le_refl _
  | cons m l ih =>
    intro q h
    have h1 := h.arrives
    have h2 := ih (arr1 q m) h1
    have h3 := arr_W h
    have e : Wt (arr1 q m) = Wt ((arrivesP q.1 m).1, q.2) + (arrivesP q.1 m).2.length + (arrivesP q.1 m).2.countP k05 := Wt_app
    have e2 : Wt ((arrivesP q.1 m).1, q.2) = q.2.length + q.2.countP k05 + PN (arrivesP q.1 m).1 := rfl
    have e3 : Wt q = q.2.length + q.2.countP k05 + PN q.1 := rfl
    rw [List.countP_cons]
    show Wt (arrAll l (arr1 q m)) ≤ _
    omega
theorem pat_W {j : Nat} {q : St × List Ms} (hj : j < nc q.1) : Wt (patP j q) ≤ Wt q := by
  unfold patP
  split
  · rename_i c
    have h3 := dec_W (v := 3) hj (by rw [phN1 c.2.1]; decide) (Or.inr rfl)
    have e : Wt ((decidesP q.1 j 3).1, q.2 ++ (decidesP q.1 j 3).2) = Wt ((decidesP q.1 j 3).1, q.2) + (decidesP q.1 j 3).2.length + (decidesP q.1 j 3).2.countP k05 := Wt_app
    have e2 : Wt ((decidesP q.1 j 3).1, q.2) = q.2.length + q.2.countP k05 + PN (decidesP q.1 j 3).1 := rfl
    have e3 : Wt q = q.2.length + q.2.countP k05 + PN q.1 := rfl
    omega
  · exact Nat.le_refl _
theorem pat_nc {j : Nat} {q : St × List Ms} : nc (patP j q).1 = nc q.1 := by
  unfold patP
  split <;> rfl
theorem Mv.min {T : Nat} (hb : (12 + ω) * δ < 9000) {k : Nat} {q : St × List Ms} (h : Mv T ω δ (k + 1) q) : Wt (minP q) + nowN q ≤ Wt q + 2 * δ := by
  obtain ⟨t, h, ht⟩ := h
  have k1 := h.tick (by omega)
  have b0 : bN ω δ 0 < 9000 := by
    show (11 + ω) * δ < 9000
    have : (11 + ω) * δ ≤ (12 + ω) * δ := Nat.mul_le_mul_right _ (by omega)
    omega
  have hJ := jc_at (t := t + 1) (b := bN ω δ) (δ := δ) b0
  have k2 : Jv (t + 1) (bN ω δ) δ (minA q).1 [] (minA q).2 := arrJ hJ _ _ k1
  have k3 : Jv (t + 1) (bN ω δ) δ (minB q).1 [] (minB q).2 := patJ_end hJ _ _ _ (by show 0 + nc (minA q).1 ≤ nc (minA q).1; omega) k2
  have w1 := arrAll_W b0 (q.2.filter (isNow (usg q.1 0 (sg q.1 0 + 1)))) (usg q.1 0 (sg q.1 0 + 1), q.2.filter (fun m => !isNow (usg q.1 0 (sg q.1 0 + 1)) m)) k1
  have w2 : Wt (minB q) ≤ Wt (minA q) := by
    have := fo_inv (f := patP) (P := fun _ p => Wt p ≤ Wt (minA q) ∧ nc p.1 = nc (minA q).1) (nc (minA q).1) 0 (minA q) (fun x p _ hx hp => ⟨Nat.le_trans (pat_W (by rw [hp.2]; omega)) hp.1, by rw [pat_nc]; exact hp.2⟩) ⟨Nat.le_refl _, rfl⟩
    exact this.1
  obtain ⟨Q, e, p, n⟩ := allAsk_app (S := (minB q).1) (ms := (minB q).2)
  have n2 : Q.length ≤ δ := Nat.le_trans n (Nat.le_trans (ask_DN k3.1.1.2.1) k3.2.2.2.2.2)
  have n3 := List.countP_le_length (p := k05) (l := Q)
  have w3 : Wt (minP q) ≤ Wt (minB q) + 2 * δ := by
    have e1 : Wt (minP q) = Wt ((minB q).1, allAskP (minB q).1 (minB q).2) := rfl
    rw [e1, e, Wt_app]
    show Wt (minB q) + _ + _ ≤ _
    omega
  have w0 : Wt q = nowN q + (q.2.filter (isNow (usg q.1 0 (sg q.1 0 + 1)))).countP k05 + Wt (usg q.1 0 (sg q.1 0 + 1), q.2.filter (fun m => !isNow (usg q.1 0 (sg q.1 0 + 1)) m)) := by
    have c := List.countP_eq_countP_filter_add q.2 k05 (isNow (usg q.1 0 (sg q.1 0 + 1)))
    have c2 := List.length_eq_countP_add_countP (isNow (usg q.1 0 (sg q.1 0 + 1))) (l := q.2)
    rw [List.countP_eq_length_filter, List.countP_eq_length_filter] at c2
    have f1 : q.2.filter (fun m => !isNow (usg q.1 0 (sg q.1 0 + 1)) m) = q.2.filter (fun a => decide (¬ isNow (usg q.1 0 (sg q.1 0 + 1)) a = true)) := List.filter_congr (fun m _ => by cases isNow (usg q.1 0 (sg q.1 0 + 1)) m <;> rfl)
    rw [← f1] at c2
    show q.2.length + q.2.countP k05 + PN q.1 = (q.2.filter (isNow (usg q.1 0 (sg q.1 0 + 1)))).length + _ + ((q.2.filter _).length + (q.2.filter _).countP k05 + PN q.1)
    omega
  have w1' : Wt (minA q) ≤ Wt (usg q.1 0 (sg q.1 0 + 1), q.2.filter (fun m => !isNow (usg q.1 0 (sg q.1 0 + 1)) m)) + (q.2.filter (isNow (usg q.1 0 (sg q.1 0 + 1)))).countP k05 := w1
  omega
theorem pass_sum {T : Nat} (hb : (12 + ω) * δ < 9000) (n : Nat) : ∀ q : St × List Ms, Mv T ω δ n q → passC n q ≤ n * (229 + 2 * ((12 + ω) * δ) + 32 * δ) + 16 * Wt q ∧ passS n q ≤ n * (1183 + 12 * ((12 + ω) * δ) + 200 * δ) + 100 * Wt q := by
  induction n with
  | zero => intro q _; exact ⟨Nat.zero_le _, Nat.zero_le _⟩
  | succ n ih =>
    intro q h
    obtain ⟨l, _, h2⟩ := h.step hb
    have w := h.min hb
    have i := ih (minP q) h2
    rw [Nat.succ_mul n, Nat.succ_mul n]
    show (229 + 2 * q.2.length + 16 * nowN q) + passC n (minP q) ≤ _ ∧ (1183 + 12 * q.2.length + 100 * nowN q) + passS n (minP q) ≤ _
    have i1 := i.1
    have i2 := i.2
    clear i ih hb
    generalize (12 + ω) * δ = A3 at l i1 i2 ⊢
    generalize n * (229 + 2 * A3 + 32 * δ) = A at i1 ⊢
    generalize n * (1183 + 12 * A3 + 200 * δ) = A2 at i2 ⊢
    omega
theorem pass_room {T κ n : Nat} {q : St × List Ms} (h : Mv T ω δ n q) (hk : δ + ω ≤ κ) (h24 : κ ≤ 24) (hn : n ≤ 60) : passC n q ≤ 13740 + 3744 * κ ∧ passS n q ≤ 70980 + 23040 * κ := by
  have e12 : (12 + ω) * δ = 12 * δ + δ * ω := by rw [Nat.add_mul, Nat.mul_comm ω]
  have n1 : δ * ω ≤ 24 * ω := Nat.mul_le_mul_right _ (by omega)
  have hb : (12 + ω) * δ < 9000 := by omega
  have s := pass_sum hb n q h
  have w : Wt q ≤ 2 * ((12 + ω) * δ) := by
    obtain ⟨t, h, _⟩ := h
    have l := h.2.2.2.2.1 0 (by omega)
    rw [List.nil_append, Nat.add_zero] at l
    have e : q.2.countP (dk q.1 t) = q.2.length := by
      refine List.countP_eq_length.mpr (fun m hm => ?_)
      have v := (h.2.2.1 m hm).2
      refine decide_eq_true ?_
      have : t + 1 ≤ ar m := v.2.1
      unfold dl
      omega
    have c := List.countP_le_length (p := k05) (l := q.2)
    have l2 : q.2.length + PN q.1 ≤ (12 + ω) * δ := by rw [← e]; exact l
    show q.2.length + q.2.countP k05 + PN q.1 ≤ _
    omega
  have m1 : n * (229 + 2 * ((12 + ω) * δ) + 32 * δ) ≤ 60 * (229 + 2 * ((12 + ω) * δ) + 32 * δ) := Nat.mul_le_mul_right _ hn
  have m2 : n * (1183 + 12 * ((12 + ω) * δ) + 200 * δ) ≤ 60 * (1183 + 12 * ((12 + ω) * δ) + 200 * δ) := Nat.mul_le_mul_right _ hn
  rw [e12] at s w m1 m2
  have s1 := s.1
  have s2 := s.2
  constructor <;> omega
end I7
