section C2
variable {γ : GP} {G G1 : AH} {ga : Nat → Nat} {tr : Nat → List Nat} {et : Nat → Nat → Nat} {S : St} {hb : Nat → Prop} {ms : List Ms}
theorem TM.modc {x : Nat} {T : List Nat} {m en : Nat → Nat} (h : TM γ G x T m en) : hI G 72 x = Int32.ofNat (tn T) := by
  obtain ⟨hT, ha, φ, R, p7, pk, pv⟩ := h
  have := R.2.2.2.2.1.1 7 72 (by rw [show hK (mk T) 7 = 15 from rfl]; decide)
  rw [p7] at this
  exact this
theorem TIt.keep {P : Nat → Prop} {it x k c : Nat} {T : List Nat} {m m1 en : Nat → Nat} (t : TIt γ G it x en T k c) (hc : c ≠ 0) (h : TM γ G x T m en) (h1 : TM γ G1 x T m1 en) (hF : Fc P G G1) (hn : ¬ P it) : TIt γ G1 it x en T k c := by
  obtain ⟨t1, t2, t3, t4, t5⟩ := t
  have l := h.at0.2.2.2.2.k t1 hc
  exact ⟨by rw [hF.kind l]; exact t1, t2, by rw [hF.rR l hn (by decide)]; exact t3, by rw [hF.rR l hn (by decide)]; exact t4, by rw [hF.rI l hn, t5, h.modc, h1.modc]⟩
theorem KS.dksE (h : KS γ ga tr et hb S ms G) {j : Nat} (hj : j < nc S) : dks S j = ks (tr j) 0 := by
  refine List.filter_congr (fun d hd => ?_)
  rw [(h.kt hj).2.2 d (List.mem_range.mp hd), show decide (0 ≤ d) = true from decide_eq_true (Nat.zero_le _), Bool.true_and]
theorem KS.tnE (h : KS γ ga tr et hb S ms G) {j : Nat} (hj : j < nc S) : tn (tr j) = (dks S j).length := by
  unfold tn dks
  congr 1
  exact List.filter_congr (fun d hd => (h.kt hj).2.2 d (List.mem_range.mp hd))
theorem Stq.ofFr {P : Nat → Prop} (hw : Wf G) (hF : Fr P G G1) (hp : ∀ a, P a → hb a ∧ hK G a ≠ 15 ∧ hK G a ≠ 21 ∧ hK G a ≠ 26) (hw1 : Wf G1) {c s : Nat} (h1 : hS G1 ≤ hS G + c) (h2 : hM G1 ≤ hM G + s) : Stq hb G G1 c s :=
  ⟨(hF.toC hw (fun a _ q => (hp a q).2)).mono (fun a _ q => (hp a q).1), hw1, h1, h2⟩
theorem Stq.wide {B : Nat → Prop} {c s : Nat} (h : Stq hb G G1 c s) (hB : ∀ a, a < hS G → hb a → B a) : Stq B G G1 c s := ⟨h.1.mono hB, h.2⟩
theorem KS.sendsLoop {B : Nat → Prop} {it j : Nat} {K : AH → Option (Int32 × AH)} {Q : Int32 × AH → Prop} (hj : j < nc S) (hDn : ∀ d, d < 6 → isD S j d → d < nk S) (hit : ¬ B it) (n : Nat) :
    ∀ (k : Nat) (ms : List Ms) (G : AH), 6 - k < n → KS γ ga tr et B S ms G → TIt γ G it (ga (70 + j)) (et j) (tr j) k 17 → ms.length + 6 < 10000 + k →
    (∀ r, KS γ ga tr et B S (ms ++ (ks (tr j) k).map (fun d => mg S (decn S j) d j)) r → Stq (fun a => B a ∨ a = it) G r (2 * (ks (tr j) k).length) (7 * (ks (tr j) k).length) → wp (K r) Q) →
    wp (f_X2_sendsAll_L19 γ (ga 1) (Int32.ofNat j) (ga (60 + j)) it K n G) Q := by
  induction n with
  | zero => intro k ms G hk; exact absurd hk (Nat.not_lt_zero _)
  | succ n ih =>
    intro k ms G hk h t hlen kk
    unfold f_X2_sendsAll_L19
    have hT := (h.kt hj).1
    refine keyStep hT h.2.1.b9 t (fun q0 => ?_) (fun q G1 t1 tm1 f1 w1 s1 m1 => ?_)
    · have e := ks_none q0
      refine kk G ?_ (by rw [e]; exact Stq.refl h.1 0 0)
      rw [e, List.map_nil, List.append_nil]; exact h
    · have hkt : hK G it < 28 ∧ hK G it ≠ 15 ∧ hK G it ≠ 21 ∧ hK G it ≠ 26 := by rw [t.1]; decide
      have h1 := h.keepIt hit hkt t.2.1 w1 f1
      have hxD : isD S j (nx (tr j) k) := of_decide_eq_true (by rw [← (h.kt hj).2.2 _ q]; exact (nx_lt q).1)
      have hd := hDn _ q hxD
      have st1 : Stq (fun a => B a ∨ a = it) G G1 0 0 := Stq.ofFr h.1 f1 (fun a e => by rw [e]; exact ⟨Or.inr rfl, hkt.2⟩) w1 (by omega) (by omega)
      have hkn : k ≤ nx (tr j) k := (nx_lt q).2
      obtain ⟨n1, n2, n3, n4⟩ := newObj (c := 30) (n := cInst 30) h1.1
      have hbb := h1.2.1.lt
      have hN := h1.keepAll n2 (n1.toC h1.1 (fun _ _ q => q.elim)) (fun _ q => q.elim)
      have hml : ms.length < 10000 := by omega
      have ek := ks_cons q
      have fin : ∀ (v : Int32), (v = 0 ∨ v = 1) → v = (if decn S j = 3 then 1 else 0) → wp (bV (f_X14_init γ (hS G1) (Int32.ofNat (nx (tr j) k)) (Int32.ofNat j) (sg S 0 + sk S (nx (tr j) k) 0) v (nO G1 30 (cInst 30))) fun g31 => bI (if hK g31 (ga 6) = 5 then f_J4_add γ (ga 6) (hS G1) g31 else none) fun v33 g32 => f_X2_sendsAll_L19 γ (ga 1) (Int32.ofNat j) (ga (60 + j)) it K n g32) Q := by
        intro v hv ev
        refine h1.post (m := mg S (decn S j) (nx (tr j) k) j) (K := fun g32 => f_X2_sendsAll_L19 γ (ga 1) (Int32.ofNat j) (ga (60 + j)) it K n g32) (Kx := fun g => f_X14_init γ (hS G1) (Int32.ofNat (nx (tr j) k)) (Int32.ofNat j) (sg S 0 + sk S (nx (tr j) k) 0) v g) (n := 0) (by decide) hml (wp_mono (X14_init n3 hbb n2 hv) (fun r hr => ⟨(⟨hr.1, hr.2.1, hr.2.2.1, hr.2.2.2.1⟩ : hI r 116 (hS G1) = Int32.ofNat (nx (tr j) k) ∧ hI r 117 (hS G1) = Int32.ofNat j ∧ hI r 118 (hS G1) = sg S 0 + sk S (nx (tr j) k) 0 ∧ hI r 119 (hS G1) = v), hr.2.2.2.2⟩)) (fun r p k2 => Or.inr (Or.inr (Or.inl ⟨?_, k2, p.1, p.2.1, p.2.2.1, ?_⟩))) (fun r h2 s2 => ?_)
        · show decn S j = 3 ∨ decn S j = 4
          unfold decn
          split
          · exact Or.inl rfl
          · exact Or.inr rfl
        · rw [p.2.2.2]; exact ev
        · have t2 : TIt γ r it (ga (70 + j)) (et j) (tr j) (nx (tr j) k + 1) 17 := t1.keep (by decide) tm1 (h2.kt hj).1 s2.1 hit
          refine ih _ _ _ (by omega) h2 t2 (by rw [List.length_append]; show ms.length + 1 + 6 < _; omega) (fun r3 h3 s3 => kk r3 ?_ ?_)
          · rw [ek, List.map_cons]
            rw [List.append_assoc] at h3
            exact h3
          · have := (st1.trans h.1 (s2.wide (fun a _ q => Or.inl q))).trans h.1 s3
            refine this.mono ?_ ?_
            · rw [ek, List.length_cons]; omega
            · rw [ek, List.length_cons, show cInst 30 = 4 from rfl]; omega
      rw [gR_ok (okf h1.isK (by decide)), h1.k1.2.2.2.2.1]
      refine wp_mO ?_
      rw [if_pos hN.isK, hN.arrival hd, bI_some, if_pos (hN.ko hj).1]
      unfold f_X7_phase
      rw [gI_ok (okf (hN.ko hj).1 (by decide)), bI_some, (hN.ko hj).2.1]
      unfold jn
      dsimp only
      refine wp_ite (fun e => ?_) (fun e => ?_)
      · rw [if_pos n4]
        exact fin 1 (Or.inr rfl) (by unfold decn; rw [if_pos e]; rfl)
      · rw [if_pos n4]
        exact fin 0 (Or.inl rfl) (by unfold decn; rw [if_neg e]; rfl)
end C2
