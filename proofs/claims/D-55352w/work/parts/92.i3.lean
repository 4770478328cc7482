/-! what arrives, what the host decides -/
section I3
variable {S S1 S2 : St} {t : Nat} {b : Nat → Nat} {δ : Nat}
theorem Sk.symm (h : Sk S S1) : Sk S1 S := ⟨h.1.symm, h.2.1.symm, fun i => (h.2.2.1 i).symm, fun j d => (h.2.2.2.1 j d).symm, fun j d => (h.2.2.2.2 j d).symm⟩
theorem serve_Sk {d g : Nat} {v : Int32} : Sk S (servesP S d g v) := by
  refine ⟨rfl, rfl, fun i => ?_, fun _ _ => rfl, fun _ _ => rfl⟩
  show sk (usk (usk S d (3 + g) (sk S d (3 + g) - v)) d (11 + g) (sk S d (11 + g) + v)) i 0 = _
  rw [sk_usk, sk_usk, if_neg (by omega), if_neg (by omega)]
theorem IA.dnB (a : IA S t) {i : Nat} (hi : i < nk S) : sk S i 0 = Int32.ofNat (dn S i) ∧ 1 ≤ dn S i ∧ dn S i ≤ 5 := (a.2.2.2.2.1 i hi).2
theorem mg_ar {kd i j : Nat} (a : IA S t) (hi : i < nk S) : ar (mg S kd i j) = t + dn S i ∧ (mg S kd i j).2.2.2 = Int32.ofNat (t + dn S i) := by
  have d := a.dnB hi
  have t6 := a.1.2
  have e : (mg S kd i j).2.2.2 = Int32.ofNat (t + dn S i) := by
    show sg S 0 + sk S i 0 = _
    rw [a.1.1, d.1, i_add]
  refine ⟨?_, e⟩
  unfold ar
  rw [e]
  exact i_nat (by omega)
theorem mg_VmA {kd i j : Nat} (a : IA S t) (hk : kd ≤ 5) (hi : i < nk S) (hj : j < nc S) (hx : isD S j i) : VmA S (t + 1) (t + 5) (mg S kd i j) := by
  have d := a.dnB hi
  have t6 := a.1.2
  refine ⟨⟨hk, hi, hj, hx⟩, ?_⟩
  rw [(mg_ar a hi).2]
  exact isN_of (by omega) (by omega) (by omega)
theorem mg_dk {kd i j x : Nat} (a : IA S t) (hi : i < nk S) : dk S x (mg S kd i j) = decide (x < t + dn S i + (if kd = 0 ∨ kd = 5 then dn S i else 0)) := by
  unfold dk dl
  rw [(mg_ar a hi).1]
  rfl
theorem old_dk {m : Ms} {x : Nat} (a : IA S t) (v : VmA S t t m) (k : m.1 = 0 ∨ m.1 = 5) : dk S x m = decide (x < t + dn S m.2.1) := by
  unfold dk dl
  rw [if_pos k]
  have : ar m = t := Nat.le_antisymm v.2.2.2 v.2.2.1
  rw [this]
theorem c1p (p : Ms → Bool) (m : Ms) : [m].countP p = if p m = true then 1 else 0 := by
  rw [List.countP_cons, List.countP_nil, Nat.zero_add]
theorem bitN_le (v d : Nat) : bitN v d ≤ 1 := by unfold bitN; omega
theorem bitN_t (v d : Nat) : bitN v d = if v.testBit d = true then 1 else 0 := by
  unfold bitN
  rw [Nat.testBit_eq_decide_div_mod_eq]
  by_cases c : v / 2 ^ d % 2 = 1
  · rw [if_pos (decide_eq_true c), c]
  · rw [if_neg (fun e => c (of_decide_eq_true e))]; omega
theorem bitN_or (v d i : Nat) : bitN (v ||| 1 <<< d) i = if i = d then 1 else bitN v i := by
  rw [bitN_t, bitN_t, Nat.testBit_or, Nat.one_shiftLeft, Nat.testBit_two_pow]
  by_cases c : i = d
  · rw [if_pos c, c, decide_eq_true rfl, Bool.or_true, if_pos rfl]
  · rw [if_neg c, decide_eq_false (fun e => c e.symm), Bool.or_false]
theorem or_lt64 {v d : Nat} (hv : v < 64) (hd : d < 6) : v ||| 1 <<< d < 64 := by
  rw [Nat.one_shiftLeft]
  exact Nat.or_lt_two_pow (n := 6) hv (Nat.pow_lt_pow_right (by decide) hd)
theorem dks_mem {j d : Nat} (h : d ∈ dks S j) : d < 6 ∧ isD S j d := by
  have := List.mem_filter.mp h
  exact ⟨List.mem_range.mp this.1, of_decide_eq_true this.2⟩
theorem sends_VmA {kd j : Nat} (a : IA S t) (hk : kd ≤ 5) (hj : j < nc S) : ∀ m ∈ sendsP S kd j, VmA S (t + 1) (t + 5) m := by
  intro m hm
  obtain ⟨d, hd, e⟩ := List.mem_map.mp hm
  have q := dks_mem hd
  rw [← e]
  exact mg_VmA a hk (a.2.2.2.2.2.2 j hj d q.1 q.2).1 hj q.2
theorem sends_yk {kd j i j2 : Nat} (hk : 1 < kd) : (sendsP S kd j).countP (yk i j2) = 0 := by
  refine List.countP_eq_zero.mpr (fun m hm => ?_)
  obtain ⟨d, hd, e⟩ := List.mem_map.mp hm
  rw [← e]
  intro q
  have := of_decide_eq_true q
  have h1 : kd ≤ 1 := this.1
  omega
theorem sends_len {kd j : Nat} : (sendsP S kd j).length = (dks S j).length := List.length_map _
/-- the host decides about a course, and sends it -/
theorem Jv.decides {old rest ms : List Ms} {j : Nat} {v : Int32} (h : Jv t b δ S (old ++ rest) ms) (hj : j < nc S) (hp : phN S j ≤ 1) (hv : v = 2 ∨ v = 3) : Jv t b δ (decidesP S j v).1 rest (ms ++ (decidesP S j v).2) := by
  have i1 := set_IS h.1 hj hp hv
  have kk : (if v = 2 then 3 else 4) ≤ 5 ∧ 1 < (if v = 2 then 3 else 4) := by split <;> decide
  refine h.step set_Sk i1 (fun m hm => ?_) (fun j2 hj2 i hi => ?_) (fun k hk => ?_)
  · exact (set_Sk (S := S) (j := j) (v := v)).symm.VmA (sends_VmA (S := settlesP S j v) (kd := if v = 2 then 3 else 4) i1.1 kk.1 hj m hm)
  · have e0 : (decidesP S j v).2.countP (yk i j2) = 0 := sends_yk kk.2
    rw [e0]
    show 0 + bitN (sv S j2) i + _ ≤ _ + bitN (sv S j2) i + (if sc (settlesP S j v) j2 0 = 0 then 0 else 1)
    rw [set_ph]
    by_cases c : j2 = j
    · rw [if_pos c]
      have : (if v = 0 then 0 else 1) = 1 := if_neg (by rcases hv with e | e <;> rw [e] <;> decide)
      rw [this]
      split <;> omega
    · rw [if_neg c]; omega
  · have e1 := List.countP_le_length (p := dk S (t + k)) (l := (decidesP S j v).2)
    have e2 : (decidesP S j v).2.length = (dks (settlesP S j v) j).length := sends_len
    rw [set_Sk.dks] at e2
    have e3 := set_PN hj hp hv
    show _ + PN (settlesP S j v) ≤ _
    omega
theorem phN1 {j : Nat} (h : sc S j 0 = 1) : phN S j = 1 := by
  unfold phN
  rw [if_neg (by rw [h]; decide), if_pos h]
theorem how_line {j d : Nat} : lineN (hw S j d) = if hw S j d = 0 then 0 else if hw S j d = 1 ∨ hw S j d = 2 then 1 else 2 := rfl
theorem Jv.nil {old rest ms : List Ms} (h : Jv t b δ S (old ++ rest) ms) (hs : Sk S S1) (h1 : IS S1 t) (hp : ∀ j, sc S1 j 0 = sc S j 0) (hv : ∀ j, sv S1 j = sv S j) : Jv t b δ S1 rest ms := by
  have := h.step (new := []) hs h1 (fun m hm => by cases hm) (fun j hj i hi => by rw [hp, hv, List.countP_nil]; omega) (fun k hk => by
    rw [List.countP_nil, hs.PN (fun j _ => by unfold phN; rw [hp])]; omega)
  rw [List.append_nil] at this
  exact this
theorem Jv.arrives {m : Ms} {rest ms : List Ms} (h : Jv t b δ S (m :: rest) ms) : Jv t b δ (arrivesP S m).1 rest (ms ++ (arrivesP S m).2) := by
  have h' : Jv t b δ S ([m] ++ rest) ms := h
  have v := h.2.1 m List.mem_cons_self
  obtain ⟨⟨v1, v2, v3, v4⟩, va⟩ := v
  have a := h.1.1
  have v6 : m.2.1 < 6 := Nat.lt_of_lt_of_le v2 a.2.1
  have di := a.2.2.2.2.2.2 _ v3 _ v6 v4
  have lost : Jv t b δ (usg S 4 (sg S 4 + 1)) rest (ms ++ []) := by
    rw [List.append_nil]
    exact h'.nil lost_Sk (lost_IS h.1) (fun _ => rfl) (fun _ => rfl)
  have same : Jv t b δ S rest (ms ++ []) := by
    rw [List.append_nil]
    exact h'.nil Sk.refl h.1 (fun _ => rfl) (fun _ => rfl)
  have hw1 : ∀ {w : Int32}, hw S m.2.2.1 m.2.1 = w → (w = 0 ∨ w = 1) → ∀ u : Int32, isHow u → lineN w + 1 ≤ lineN u → u ≠ 3 → ∀ line, IS (becomesP S m.2.2.1 m.2.1 u line) t := fun {w} e hw0 u hu hl u3 line => bec_IS h.1 v3 v4 hu (by rw [e]; exact hl) (by rw [e]; rcases hw0 with q | q <;> rw [q] <;> decide) u3
  unfold arrivesP
  by_cases c : (if toHost m.1 then sg S 3 else sk S m.2.1 1) = 0
  · rw [if_pos c]
    have hear : ∀ bb : Bool, Jv t b δ (hearsP S m.2.1 m.2.2.1 bb) rest (ms ++ []) := by
      intro bb
      rw [List.append_nil]
      unfold hearsP
      by_cases c1 : bb = true ∧ hw S m.2.2.1 m.2.1 = 1
      · rw [if_pos c1]
        have hg : ign S m.2.2.1 m.2.1 < 4 := ((IA.ok a h.1.2.1).2.2.1 _ v3 _ v6 v4).2.1
        exact h'.nil (bec_Sk.trans serve_Sk) (serve_IS h.1 v3 v2 v4 c1.2 hg) (fun x => bec_ph (S := S)) (fun _ => rfl)
      · rw [if_neg c1]
        by_cases c2 : bb = false ∧ (hw S m.2.2.1 m.2.1 = 0 ∨ hw S m.2.2.1 m.2.1 = 1)
        · rw [if_pos c2]
          refine h'.nil bec_Sk (hw1 rfl c2.2 4 (Or.inr (Or.inr (Or.inr (Or.inr rfl)))) ?_ (by decide) 6) (fun x => bec_ph) (fun _ => rfl)
          rcases c2.2 with q | q <;> rw [q] <;> decide
        · rw [if_neg c2]
          exact h'.nil Sk.refl h.1 (fun _ => rfl) (fun _ => rfl)
    have count : ∀ bb : Bool, m.1 = (if bb = true then 1 else 2) → Jv t b δ (countsP S m.2.1 m.2.2.1 bb).1 rest (ms ++ (countsP S m.2.1 m.2.2.1 bb).2) := by
      intro bb hk
      unfold countsP
      by_cases c1 : sc S m.2.2.1 0 = 1
      · rw [if_pos c1]
        by_cases c2 : bb = false
        · rw [if_pos c2]
          exact h'.decides v3 (by rw [phN1 c1]; decide) (Or.inr rfl)
        · rw [if_neg c2]
          have hb1 : bb = true := by cases bb; exact absurd rfl c2; rfl
          rw [if_pos hb1] at hk
          have sv6 := (a.2.2.2.2.2.1 _ v3).1
          have h2 : Jv t b δ (usv S m.2.2.1 (sv S m.2.2.1 ||| 1 <<< m.2.1)) ([] ++ rest) (ms ++ []) := by
            refine h'.step usv_Sk (usv_IS h.1 (or_lt64 sv6 v6)) (fun m hm => by cases hm) (fun j hj i hi => ?_) (fun k hk => ?_)
            · rw [List.countP_nil, sv_usv]
              show 0 + _ + _ ≤ _ + _ + (if sc S j 0 = 0 then 0 else 1)
              by_cases c3 : j = m.2.2.1
              · rw [if_pos c3, bitN_or]
                by_cases c4 : i = m.2.1
                · rw [if_pos c4, c1p, if_pos (show yk i j m = true from decide_eq_true ⟨by omega, c4.symm, c3.symm⟩)]
                  have := bitN_le (sv S j) i
                  omega
                · rw [if_neg c4, c3]; omega
              · rw [if_neg c3]; omega
            · rw [List.countP_nil]
              show 0 + PN S ≤ _
              omega
          by_cases c3 : popc (sv S m.2.2.1 ||| 1 <<< m.2.1) = (dks S m.2.2.1).length
          · rw [if_pos c3]
            have := h2.decides (v := 2) (j := m.2.2.1) v3 (by show phN S m.2.2.1 ≤ 1; rw [phN1 c1]; decide) (Or.inl rfl)
            rw [List.append_nil] at this
            exact this
          · rw [if_neg c3]
            exact h2
      · rw [if_neg c1]
        exact same
    by_cases k0 : m.1 = 0
    · rw [if_pos k0]
      unfold invitedP
      by_cases c1 : hw S m.2.2.1 m.2.1 = 0
      · rw [if_pos c1]
        have vote : ∀ (u line : Int32) (kd : Nat), (u = 1 ∨ u = 2) → (kd = 1 ∨ kd = 2) → Jv t b δ (becomesP S m.2.2.1 m.2.1 u line) rest (ms ++ [mg S kd m.2.1 m.2.2.1]) := by
          intro u line kd hu hkd
          have hk12 : 1 ≤ kd ∧ kd ≤ 2 := by omega
          have uu : isHow u ∧ lineN 0 + 1 ≤ lineN u ∧ u ≠ 3 := by
            rcases hu with q | q <;> subst q
            · exact ⟨Or.inr (Or.inl rfl), by decide, by decide⟩
            · exact ⟨Or.inr (Or.inr (Or.inl rfl)), by decide, by decide⟩
          refine h'.step bec_Sk (hw1 c1 (Or.inl rfl) u uu.1 uu.2.1 uu.2.2 line) (fun m2 hm2 => ?_) (fun j hj i hi => ?_) (fun k hk => ?_)
          · rw [List.mem_singleton.mp hm2]
            exact mg_VmA a (by omega) v2 v3 v4
          · rw [bec_ph, c1p, c1p]
            show _ + bitN (sv S j) i + _ ≤ _ + bitN (sv S j) i + _
            by_cases y : yk i j (mg S kd m.2.1 m.2.2.1) = true
            · have y2 := of_decide_eq_true y
              rw [if_pos y, if_pos (show yk i j m = true from decide_eq_true ⟨by omega, y2.2.1, y2.2.2⟩)]
              omega
            · rw [if_neg y]; omega
          · rw [c1p, c1p, bec_Sk.PN (fun j _ => by unfold phN; rw [bec_ph]), mg_dk a v2, old_dk a ⟨⟨v1, v2, v3, v4⟩, va⟩ (Or.inl k0), if_neg (show ¬ (kd = 0 ∨ kd = 5) by omega), Nat.add_zero]
            exact Nat.le_refl _
        by_cases c2 : freeP S m.2.1 (ign S m.2.2.1 m.2.1) < am S m.2.2.1 m.2.1
        · rw [if_pos c2]
          exact vote 2 4 2 (Or.inr rfl) (Or.inr rfl)
        · rw [if_neg c2]
          exact vote 1 3 1 (Or.inl rfl) (Or.inl rfl)
      · rw [if_neg c1]
        exact same
    · rw [if_neg k0]
      by_cases k1 : m.1 = 1
      · rw [if_pos k1]
        exact count true (by rw [k1]; rfl)
      · rw [if_neg k1]
        by_cases k2 : m.1 = 2
        · rw [if_pos k2]
          exact count false (by rw [k2]; rfl)
        · rw [if_neg k2]
          by_cases k3 : m.1 = 3
          · rw [if_pos k3]
            exact hear true
          · rw [if_neg k3]
            by_cases k4 : m.1 = 4
            · rw [if_pos k4]
              exact hear false
            · rw [if_neg k4]
              have k5 : m.1 = 5 := by omega
              unfold answersP
              by_cases c1 : sc S m.2.2.1 0 < 2
              · rw [if_pos c1]
                exact same
              · rw [if_neg c1]
                have dd : decn S m.2.2.1 = 3 ∨ decn S m.2.2.1 = 4 := by
                  unfold decn
                  split
                  · exact Or.inl rfl
                  · exact Or.inr rfl
                refine h'.step Sk.refl h.1 (fun m2 hm2 => ?_) (fun j hj i hi => ?_) (fun k hk => ?_)
                · rw [List.mem_singleton.mp hm2]
                  exact mg_VmA a (by omega) v2 v3 v4
                · rw [c1p, if_neg (fun y => by
                    have y2 := (of_decide_eq_true y).1
                    have : decn S m.2.2.1 ≤ 1 := y2
                    omega)]
                  dsimp only
                  omega
                · rw [c1p, c1p, mg_dk a v2, old_dk a ⟨⟨v1, v2, v3, v4⟩, va⟩ (Or.inr k5), if_neg (show ¬ (decn S m.2.2.1 = 0 ∨ decn S m.2.2.1 = 5) by omega), Nat.add_zero]
                  exact Nat.le_refl _
  · rw [if_neg c]
    exact lost
end I3
