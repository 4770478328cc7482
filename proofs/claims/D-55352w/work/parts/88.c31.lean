/-! messages on their way, in order -/
def ordI (lt : Nat → Nat → Bool) : Nat → List Nat
  | 0 => []
  | n + 1 => ins ((ordI lt n).filter (fun q => lt q n)).length n (ordI lt n)
abbrev mz0 : Ms := (0, 0, 0, 0)
def leA (ms : List Ms) (q n : Nat) : Bool := decide (¬ (ms.getD n mz0).2.2.2 < (ms.getD q mz0).2.2.2)
def orderM (ms : List Ms) : List Nat := ordI (leA ms) ms.length
section C31
variable {γ : GP} {G G1 : AH} {ga : Nat → Nat} {tr : Nat → List Nat} {et : Nat → Nat → Nat} {S : St} {hb : Nat → Prop} {ms : List Ms}
theorem nd_map {f : Nat → Nat} {L : List Nat} {p : Nat} (h : p < L.length) : nd (L.map f) p = f (nd L p) := by
  unfold nd
  rw [List.getD_eq_getElem?_getD, List.getD_eq_getElem?_getD, List.getElem?_map, List.getElem?_eq_getElem h]
  rfl
theorem ordI_len (lt : Nat → Nat → Bool) (n : Nat) : (ordI lt n).length = n := by
  induction n with
  | zero => rfl
  | succ n ih =>
    show (ins _ n (ordI lt n)).length = _
    rw [ins_len, ih]
theorem ins_mem {i q a : Nat} {ns : List Nat} : a ∈ ins i q ns ↔ a = q ∨ a ∈ ns := by
  unfold ins
  rw [List.mem_append, List.mem_cons]
  constructor
  · rintro (h | h | h)
    · exact Or.inr (List.mem_of_mem_take h)
    · exact Or.inl h
    · exact Or.inr (List.mem_of_mem_drop h)
  · rintro (h | h)
    · exact Or.inr (Or.inl h)
    · rw [← List.take_append_drop i ns, List.mem_append] at h
      rcases h with h | h
      · exact Or.inl h
      · exact Or.inr (Or.inr h)
theorem ordI_lt (lt : Nat → Nat → Bool) (n : Nat) : ∀ a ∈ ordI lt n, a < n := by
  induction n with
  | zero => intro a ha; cases ha
  | succ n ih =>
    intro a ha
    rcases ins_mem.mp ha with h | h
    · omega
    · have := ih a h; omega
theorem ins_map {i q : Nat} {ns : List Nat} {f : Nat → Nat} : (ins i q ns).map f = ins i (f q) (ns.map f) := by
  unfold ins
  rw [List.map_append, List.map_cons, List.map_take, List.map_drop]
/-- how many of those there arrive no later -/
theorem wayIn {Gs : AH} {q it v it2 : Nat} {nsq Lq : List Nat} {As : List Ms} {m : Ms} {K : Int32 → AH → Option (Nat × AH)} {Q : Nat × AH → Prop} (hws : Wf Gs) (hLq : LL γ Gs q nsq Lq) (hA : As.length = Lq.length) (hL9 : Lq.length < 1000000) (hZ : ∀ p, p < Lq.length → MsgF Gs (nd Lq p) (As.getD p mz0)) (hv : MsgF Gs v m) (hk2 : hK Gs it2 = 13) (n : Nat) :
    ∀ (p c : Nat) (G : AH), Lq.length - p < n → p ≤ Lq.length → Fr (fun a => a = it2) Gs G → Wf G → hS G = hS Gs → hM G = hM Gs → LIt γ G it2 q nsq p →
    (∀ r, Fr (fun a => a = it2) Gs r → Wf r → hS r = hS Gs → hM r = hM Gs → wp (K (Int32.ofNat (c + ((As.drop p).filter (fun a => decide (¬ m.2.2.2 < a.2.2.2))).length)) r) Q) →
    wp (f_X2_onWay_L44 γ q it v it2 K n (Int32.ofNat c) G) Q := by
  induction n with
  | zero => intro p c G hk; exact absurd hk (Nat.not_lt_zero _)
  | succ n ih =>
    intro p c G hn hp f w es em t kk
    have toC : ∀ {X : AH}, Fr (fun a => a = it2) Gs X → Fc (fun a => a = it2) Gs X := fun k => k.toC hws (fun a _ e => by rw [e, hk2]; decide)
    have nx : q ≠ it2 := fun e => by have := hLq.1; rw [e, hk2] at this; exact absurd this (by decide)
    have nn : ∀ a ∈ nsq, ¬ a = it2 := fun a ha e => by
      obtain ⟨i, hi, e2⟩ := List.getElem_of_mem ha
      have k := (hLq.2.2.2.2.2.2.2 i hi).1
      rw [nd_get hi, e2, e, hk2] at k
      exact absurd k (by decide)
    have hL := hLq.keepC hws (toC f) nx nn
    unfold f_X2_onWay_L44
    rw [dsp13 t.1, t.hasNext hL hp (by omega), bI_some]
    by_cases c0 : p = Lq.length
    · rw [if_pos c0, if_pos rfl]
      have k2 := kk G f w es em
      rw [List.drop_of_length_le (by omega)] at k2
      exact k2
    · rw [if_neg c0, if_neg (by decide), dsp13 t.1]
      have hp2 : p < Lq.length := by omega
      refine wp_bR (wp_mono (LIt.next w hL t hp2 (by omega)) (fun r hr => ?_))
      obtain ⟨r1, r2, r3, r4, r5, r6, r7⟩ := hr
      have f2 : Fr (fun a => a = it2) Gs r.2 := f.trans r4 (fun a e => Or.inl e)
      have mp := (hZ p hp2).keep hws (toC f2) (fun e => by have := (hZ p hp2).k; rw [e, hk2] at this; omega)
      have mv := hv.keep hws (toC f2) (fun e => by have := hv.k; rw [e, hk2] at this; omega)
      rw [r1]
      refine wp_gC (Or.inr mp.in4) ?_
      rw [mp.arrv, bI_some, mv.arrv, bI_some]
      have ed : As.drop p = As.getD p mz0 :: As.drop (p + 1) := by
        rw [List.drop_eq_getElem_cons (by omega : p < As.length), List.getD_eq_getElem?_getD, List.getElem?_eq_getElem (by omega)]; rfl
      rw [ed, List.filter_cons] at kk
      by_cases cl : m.2.2.2 < (As.getD p mz0).2.2.2
      · rw [if_pos cl, Int32.add_zero]
        rw [if_neg (fun e => absurd cl (of_decide_eq_true e))] at kk
        exact ih (p + 1) c r.2 (by omega) (by omega) f2 r5 (by rw [r6]; exact es) (by rw [r7]; exact em) r2 kk
      · rw [if_neg cl, i_one]
        rw [if_pos (decide_eq_true cl), List.length_cons] at kk
        refine ih (p + 1) (c + 1) r.2 (by omega) (by omega) f2 r5 (by rw [r6]; exact es) (by rw [r7]; exact em) r2 (fun r8 a1 a2 a3 a4 => ?_)
        have := kk r8 a1 a2 a3 a4
        rw [show c + 1 + ((As.drop (p + 1)).filter (fun a => decide (¬ m.2.2.2 < a.2.2.2))).length = c + (((As.drop (p + 1)).filter (fun a => decide (¬ m.2.2.2 < a.2.2.2))).length + 1) from by omega]
        exact this
theorem wayLoop {q it x : Nat} {ns : List Nat} {Z : List (Nat × Ms)} {G0 : AH} (hw0 : Wf G0) (hlt : γ.2 < hS G0) (hZ9 : Z.length < 100000) (hx : LL γ G0 x ns (Z.map (·.1))) (hz : ∀ z ∈ Z, MsgF G0 z.1 z.2) (hq : hS G0 ≤ q) (hit : hS G0 ≤ it) (n : Nat) :
    ∀ (k : Nat) (nsq : List Nat) (G : AH), Z.length - k < n → k ≤ Z.length → Fr (fun _ => False) G0 G → Wf G → LIt γ G it x ns k → LL γ G q nsq ((ordI (leA (Z.map (·.2))) k).map (fun i => nd (Z.map (·.1)) i)) → (∀ a ∈ nsq, hS G0 ≤ a) →
    wp (f_X2_onWay_L16 γ q it n G) (fun r => r.1 = q ∧ (∃ nsq1, LL γ r.2 q nsq1 ((ordI (leA (Z.map (·.2))) Z.length).map (fun i => nd (Z.map (·.1)) i))) ∧ Fr (fun _ => False) G0 r.2 ∧ Wf r.2 ∧ hS r.2 ≤ hS G + 2 * (Z.length - k) ∧ hM r.2 ≤ hM G + 8 * (Z.length - k)) := by
  have hlen : (Z.map (·.1)).length = Z.length := List.length_map _
  induction n with
  | zero => intro k nsq G hk; exact absurd hk (Nat.not_lt_zero _)
  | succ n ih =>
    intro k nsq G hn hk f w t hL hnq
    have toC : ∀ {X : AH}, Fr (fun _ => False) G0 X → Fc (fun _ => False) G0 X := fun k => k.toC hw0 (fun a _ e => e.elim)
    have hX := hx.keepC hw0 (toC f) (fun e => e) (fun _ _ e => e)
    unfold f_X2_onWay_L16
    rw [dsp13 t.1, t.hasNext hX (by rw [hlen]; exact hk) (by rw [hlen]; omega), bI_some]
    by_cases c : k = (Z.map (·.1)).length
    · rw [if_pos c, if_pos rfl]
      have ck : k = Z.length := by rw [hlen] at c; exact c
      rw [ck] at hL
      exact wp_some ⟨rfl, ⟨nsq, hL⟩, f, w, by show hS G ≤ _; omega, by show hM G ≤ _; omega⟩
    · rw [if_neg c, if_neg (by decide), dsp13 t.1]
      have hk2 : k < Z.length := by rw [hlen] at c; omega
      refine wp_bR (wp_mono (LIt.next w hX t (by rw [hlen]; exact hk2) (by rw [hlen]; omega)) (fun r hr => ?_))
      obtain ⟨r1, r2, r3, r4, r5, r6, r7⟩ := hr
      have f1 : Fr (fun _ => False) G0 r.2 := f.trans r4 (fun a e => Or.inr (by rw [e]; exact hit))
      have zm : ∀ i, i < Z.length → MsgF G0 (nd (Z.map (·.1)) i) ((Z.map (·.2)).getD i mz0) := fun i hi => by
        have := hz _ (List.getElem_mem hi)
        rw [nd_get (by rw [hlen]; exact hi), List.getElem_map, List.getD_eq_getElem?_getD, List.getElem?_map, List.getElem?_eq_getElem hi]
        exact this
      have keepM : ∀ {X : AH}, Fr (fun _ => False) G0 X → ∀ i, i < Z.length → MsgF X (nd (Z.map (·.1)) i) ((Z.map (·.2)).getD i mz0) := fun k i hi => (zm i hi).keep hw0 (toC k) (fun e => e)
      rw [r1]
      refine wp_gC (Or.inr (keepM f1 k hk2).in4) ?_
      have q5 := hL.1
      have nqi : q ≠ it := fun e => by rw [e, t.1] at q5; exact absurd q5 (by decide)
      have nni : ∀ a ∈ nsq, ¬ a = it := fun a ha e => by
        obtain ⟨i, hi, e2⟩ := List.getElem_of_mem ha
        have kk := (hL.2.2.2.2.2.2.2 i hi).1
        rw [nd_get hi, e2, e, t.1] at kk
        exact absurd kk (by decide)
      have hL1 := LL.keep w r4 hL nqi nni
      have ol : ((ordI (leA (Z.map (·.2))) k).map (fun i => nd (Z.map (·.1)) i)).length = k := by rw [List.length_map, ordI_len]
      have hlt1 : γ.2 < hS r.2 := Nat.lt_of_lt_of_le hlt f1.1
      refine wp_bR (wp_ifc hL1.1 (wp_mono (LL.iterator r5 hlt1 hL1 (by rw [ol]; omega)) (fun r8 hr8 => ?_)))
      obtain ⟨b1, b2, b3, b4, b5, b6, b7⟩ := hr8
      have f8 : Fr (fun _ => False) G0 r8.2 := f1.trans b4 (fun a e => e.elim)
      have hk8 : hK r8.2 (hS r.2) = 13 := by rw [← b1]; exact b2.1
      have t8 : LIt γ r8.2 it x ns (k + 1) := r2.keepF r3 b4 r5 (fun e => e) (fun e => e)
      rw [b1] at b2 ⊢
      have olt : ∀ p, p < k → nd (ordI (leA (Z.map (·.2))) k) p < k := fun p hp => ordI_lt _ _ _ (nd_mem (by rw [ordI_len]; exact hp))
      refine wayIn (As := (ordI (leA (Z.map (·.2))) k).map (fun i => (Z.map (·.2)).getD i mz0)) b5 b3 (by rw [List.length_map, ol, ordI_len]) (by rw [ol]; omega) (fun p hp => ?_) (keepM f8 k hk2) hk8 FU 0 0 r8.2 (by rw [ol]; show _ < 4294967296; omega) (Nat.zero_le _) (Fr.refl _ _) b5 rfl rfl b2 (fun r9 d1 d2 d3 d4 => ?_)
      · rw [ol] at hp
        have e1 : nd ((ordI (leA (Z.map (·.2))) k).map (fun i => nd (Z.map (·.1)) i)) p = nd (Z.map (·.1)) (nd (ordI (leA (Z.map (·.2))) k) p) := by
          rw [nd_map (by rw [ordI_len]; exact hp)]
        have e2 : ((ordI (leA (Z.map (·.2))) k).map (fun i => (Z.map (·.2)).getD i mz0)).getD p mz0 = (Z.map (·.2)).getD (nd (ordI (leA (Z.map (·.2))) k) p) mz0 := by
          rw [nd_get (by rw [ordI_len]; exact hp), List.getD_eq_getElem?_getD, List.getElem?_map, List.getElem?_eq_getElem (by rw [ordI_len]; exact hp)]; rfl
        rw [e1, e2]
        exact keepM f8 _ (by have := olt p hp; omega)
      · have f9 : Fr (fun _ => False) G0 r9 := f8.trans d1 (fun a e => Or.inr (by rw [e]; exact f1.1))
        have q5' := b3.1
        have nq9 : q ≠ hS r.2 := fun e => by rw [e, hk8] at q5'; exact absurd q5' (by decide)
        have nn9 : ∀ a ∈ nsq, ¬ a = hS r.2 := fun a ha e => by
          obtain ⟨i, hi, e2⟩ := List.getElem_of_mem ha
          have kk := (b3.2.2.2.2.2.2.2 i hi).1
          rw [nd_get hi, e2, e, hk8] at kk
          exact absurd kk (by decide)
        have hL9 := LL.keep b5 d1 b3 nq9 nn9
        have hX8 := hx.keepC hw0 (toC f8) (fun e => e) (fun _ _ e => e)
        have nit9 : it ≠ hS r.2 := fun e => by have := r5.k r2.1 (by decide); omega
        have nx9 : x ≠ hS r.2 := fun e => by have := hX8.1; rw [e, hk8] at this; exact absurd this (by decide)
        have t9 : LIt γ r9 it x ns (k + 1) := t8.keepF hX8 d1 b5 nit9 nx9
        have ec : (((ordI (leA (Z.map (·.2))) k).map (fun i => (Z.map (·.2)).getD i mz0)).filter (fun a => decide (¬ ((Z.map (·.2)).getD k mz0).2.2.2 < a.2.2.2))).length = ((ordI (leA (Z.map (·.2))) k).filter (fun a => leA (Z.map (·.2)) a k)).length := by
          rw [List.filter_map, List.length_map]
          rfl
        rw [List.drop_zero, ec, Nat.zero_add]
        have cle : ((ordI (leA (Z.map (·.2))) k).filter (fun a => leA (Z.map (·.2)) a k)).length ≤ k := by
          have := List.length_filter_le (fun a => leA (Z.map (·.2)) a k) (ordI (leA (Z.map (·.2))) k)
          rw [ordI_len] at this
          exact this
        have hlt9 : γ.2 < hS r9 := Nat.lt_of_lt_of_le hlt f9.1
        refine wp_bV (wp_ifc hL9.1 (wp_mono (LL.insert d2 hlt9 hL9 (by rw [ol]; exact cle) (by rw [ol]; omega)) (fun r10 hr10 => ?_)))
        obtain ⟨g1, g2, g3, g4, g5⟩ := hr10
        have nP : ∀ a, LLp q nsq a → hS G0 ≤ a := fun a e => by
          rcases e with e | e
          · rw [e]; exact hq
          · exact hnq a e
        have f10 : Fr (fun _ => False) G0 r10 := f9.trans g2 (fun a e => Or.inr (nP a e))
        have hX9 := hx.keepC hw0 (toC f9) (fun e => e) (fun _ _ e => e)
        have xl := hw0.k hx.1 (by decide)
        have t10 : LIt γ r10 it x ns (k + 1) := t9.keepF hX9 g2 d2 (fun e => by
          rcases e with e | e
          · exact nqi e.symm
          · exact nni _ e rfl) (fun e => by have := nP x e; omega)
        refine wp_mono (ih (k + 1) _ r10 (by omega) (by omega) f10 g3 t10 (by
          have e3 : ordI (leA (Z.map (·.2))) (k + 1) = ins ((ordI (leA (Z.map (·.2))) k).filter (fun q => leA (Z.map (·.2)) q k)).length k (ordI (leA (Z.map (·.2))) k) := rfl
          rw [e3, ins_map]
          exact g1) (fun a ha => ?_)) (fun r11 hr11 => ?_)
        · rcases ins_mem.mp ha with e | e
          · rw [e]; exact f9.1
          · exact hnq a e
        · obtain ⟨y1, y2, y3, y4, y5, y6⟩ := hr11
          exact ⟨y1, y2, y3, y4, by omega, by omega⟩
end C31
