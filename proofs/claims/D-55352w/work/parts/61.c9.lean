section C9
variable {γ : GP} {G G1 : AH} {ga : Nat → Nat} {tr : Nat → List Nat} {et : Nat → Nat → Nat} {S : St} {hb : Nat → Prop} {ms : List Ms}
theorem listStepC {β : Type} {Q : β → Prop} {x it i : Nat} {Cs : List Nat} {L : List Nat} {A : AH → Option β} {Bd : Nat → AH → Option β} (hw : Wf G) (h : AL γ G x L) (t : AIt γ G it x i) (hi : i ≤ L.length) (hL9 : L.length < 10000000) (hk : ∀ v ∈ L, hK G v ∈ Cs)
    (k0 : i = L.length → wp (A G) Q)
    (k1 : i < L.length → ∀ G1, AIt γ G1 it x (i + 1) → AL γ G1 x L → Fr (fun a => a = it) G G1 → Wf G1 → hS G1 = hS G → hM G1 = hM G → wp (Bd (nd L i) G1) Q) :
    wp (bI (if hK G it = 10 then f_J13_hasNext γ it G else if hK G it = 13 then f_J24_hasNext γ it G else if hK G it = 17 then f_J29_hasNext γ it G else if hK G it = 18 then f_J29_hasNext γ it G else none) fun v10 g9 => (if v10 = 0 then A g9 else bR (if hK g9 it = 10 then f_J13_next γ it g9 else if hK g9 it = 13 then f_J24_next γ it g9 else if hK g9 it = 17 then f_J31_next γ it g9 else if hK g9 it = 18 then f_J32_next γ it g9 else none) fun v12 g11 => gC g11 Cs v12 (Bd v12 g11))) Q := by
  rw [dsp10 t.1, t.hasNext h hi hL9, bI_some]
  by_cases q : i = L.length
  · rw [if_pos q, if_pos rfl]
    exact k0 q
  · rw [if_neg q, if_neg (by decide), dsp10 t.1]
    have q2 : i < L.length := by omega
    refine wp_bR (wp_mono (AIt.next hw h t q2 hL9) (fun r hr => ?_))
    obtain ⟨r1, r2, r3, r4, r5, r6, r7⟩ := hr
    have e : nd L i = L[i] := nd_get q2
    have km : hK G (nd L i) ∈ Cs := by rw [e]; exact hk _ (List.getElem_mem q2)
    have hs := h.2.2.2.2.2.2.2.1 _ (List.getElem_mem q2)
    have l : nd L i < hS G := by
      rw [e]
      exact hw.lt_of hs |>.2
    rw [r1, ← e]
    refine wp_gC (Or.inr ?_) (k1 q2 _ r2 r3 r4 r5 r6 r7)
    unfold okC
    rw [(r4.2.2.1 _ l).1]; exact km
theorem KS.guard9s {X : Nat → Prop} (h : KS γ ga tr et hb S ms G) (hX : ∀ a, X a → 28 ≤ hK G a ∧ hK G a ≤ 32) : KS γ ga tr et (fun b => hb b ∧ ¬ X b) S ms G := by
  obtain ⟨hw, hc, h3, h4, own, k⟩ := h
  refine ⟨hw, hc, fun a q => h3 a q.1, fun b q => ⟨h4 b q, fun x => ?_⟩, own, ⟨k.1.1, k.1.2.1, fun b q q9 => ⟨k.1.2.2.1 b q q9, fun x => ?_⟩, k.1.2.2.2⟩, k.2⟩
  · have := (hw.2 b (by have := hX b x; omega)).2
    omega
  · have hh := hX b x
    rcases k.1.2.2.2.2.2.2 b hh.1 hh.2 with w | w
    · exact q w
    · exact q9 w
theorem MsgF.in4 {a : Nat} {m : Ms} (h : MsgF G a m) : hK G a ∈ [29, 30, 31, 32] := by
  rcases h with h | h | h | h
  · rw [h.2.1]; decide
  · rw [h.2.1]; decide
  · rw [h.2.1]; decide
  · rw [h.2.1]; decide
theorem KS.arriveLoop {H : St → List Ms → List Ms → Prop} (hH : ∀ S m rest ms, H S (m :: rest) ms → Ok S ∧ Vm S m ∧ ms.length + 6 < 10000 ∧ H (arrivesP S m).1 rest (ms ++ (arrivesP S m).2))
    {B : Nat → Prop} {q it : Nat} {Z : List (Nat × Ms)} (hZ9 : Z.length < 1000000) (hq : ¬ B q) (hit : ¬ B it) (hqi : q ≠ it) (n : Nat) :
    ∀ (i : Nat) (S : St) (ms : List Ms) (G : AH), Z.length - i < n → i ≤ Z.length → KS γ ga tr et B S ms G → AL γ G q (Z.map (·.1)) → ¬ B (hR G 15 q) → hR G 15 q ≠ it → AIt γ G it q i → (∀ z ∈ Z, MsgF G z.1 z.2 ∧ ¬ B z.1) → H S ((Z.drop i).map (·.2)) ms →
    wp (f_X2_allArrive_L105 γ (ga 1) it n G) (fun r => KS γ ga tr et B (arrAll ((Z.drop i).map (·.2)) (S, ms)).1 (arrAll ((Z.drop i).map (·.2)) (S, ms)).2 r ∧ Stq (fun a => B a ∨ a = it) G r (16 * (Z.length - i)) (100 * (Z.length - i))) := by
  induction n with
  | zero => intro i S ms G hk; exact absurd hk (Nat.not_lt_zero _)
  | succ n ih =>
    intro i S ms G hn hi h a ha15 ha15i t hz p
    unfold f_X2_allArrive_L105
    have hlen : (Z.map (·.1)).length = Z.length := List.length_map _
    refine listStepC h.1 a t (by rw [hlen]; exact hi) (by rw [hlen]; omega) (fun v hv => ?_) (fun e => ?_) (fun hi2 G1 t1 a1 f1 w1 s1 m1 => ?_)
    · obtain ⟨z, hz1, e⟩ := List.mem_map.mp hv
      rw [← e]; exact (hz z hz1).1.in4
    · rw [hlen] at e
      rw [e, List.drop_length]
      exact wp_some ⟨h, Stq.refl h.1 _ _⟩
    · rw [hlen] at hi2
      have hkt : hK G it < 28 ∧ hK G it ≠ 15 ∧ hK G it ≠ 21 ∧ hK G it ≠ 26 := by rw [t.1]; decide
      have h1 := h.keepIt hit hkt t.2.1 w1 f1
      have st1 : Stq (fun a => B a ∨ a = it) G G1 0 0 := Stq.ofFr h.1 f1 (fun a e => by rw [e]; exact ⟨Or.inr rfl, hkt.2⟩) w1 (by omega) (by omega)
      have ez : Z.drop i = Z[i] :: Z.drop (i + 1) := List.drop_eq_getElem_cons hi2
      have en : nd (Z.map (·.1)) i = (Z[i]).1 := by
        rw [nd_get (by rw [hlen]; exact hi2), List.getElem_map]
      rw [ez, List.map_cons] at p
      obtain ⟨o, v, hl, p2⟩ := hH _ _ _ _ p
      obtain ⟨mf, nb⟩ := hz _ (List.getElem_mem hi2)
      have ki : ∀ z ∈ Z, z.1 ≠ it := fun z hz1 e => by
        have := (hz z hz1).1.k
        rw [e, t.1] at this
        omega
      have mf1 : ∀ z ∈ Z, MsgF G1 z.1 z.2 := fun z hz1 => (hz z hz1).1.keep h.1 st1.1 (fun e => by
        rcases e with e | e
        · exact (hz z hz1).2 e
        · exact ki z hz1 e)
      rw [en]
      refine wp_bV (wp_ifc h1.isK (wp_mono (h1.arrives (mf1 _ (List.getElem_mem hi2)) nb o v hl) (fun r hr => ?_)))
      obtain ⟨h2, s2⟩ := hr
      have e15 : hR G1 15 q = hR G 15 q := (f1.2.2.2 q (h.1.k a.1 (by decide)) hqi).2.1 15
      have ka := AL.keepC h1.1 s2.1 a1 hq (fun _ => by rw [e15]; exact ha15)
      have t2 : AIt γ r it q (i + 1) := t1.keepF a1 s2.1 h1.1 hit hq
      refine wp_mono (ih (i + 1) _ _ r (by omega) (by omega) h2 ka.1 (by rw [ka.2, e15]; exact ha15) (by rw [ka.2, e15]; exact ha15i) t2 (fun z hz1 => ⟨(mf1 z hz1).keep h1.1 s2.1 (hz z hz1).2, (hz z hz1).2⟩) p2) (fun r2 hr2 => ⟨?_, ?_⟩)
      · rw [ez, List.map_cons]
        exact hr2.1
      · exact ((st1.trans h.1 (s2.wide (fun a _ q => Or.inl q))).trans h.1 hr2.2).mono (by omega) (by omega)
end C9
