section JL
variable {γ : GP} {G : AH} {x : Nat} {L ns : List Nat}
theorem AL.toArray (hw : Wf G) (hb : γ.2 < hS G) (h : AL γ G x L) (hL9 : L.length < 10000000) : wp (f_J2_toArray γ x G) (fun r => r.1 = hS G ∧ hK r.2 r.1 = 106 ∧ hL r.2 r.1 = L.length ∧ (∀ i, i < L.length → hQ r.2 r.1 i = nd L i) ∧ Fr (fun _ => False) G r.2 ∧ Wf r.2 ∧ hS r.2 = hS G + 1 ∧ hM r.2 = hM G + L.length) := by
  obtain ⟨a1, a2, a3, a4, a5, a6, a7, a8, a9⟩ := h
  unfold f_J2_toArray
  rw [gR_ok (okf a1 (by decide)), gI_ok (okf a1 (by decide)), a3]
  refine wp_bR (wp_mono (p_copyOf hw a4 (n := L.length) (by omega) (by omega) (fun i hi => Or.inr ?_) hb) (fun r hr => wp_some ?_))
  · have : i < L.length := by omega
    rw [a7 i this]
    exact a8 _ (List.getElem_mem this)
  · obtain ⟨r1, r2, r3, r4, r5, r6, r7, r8⟩ := hr
    refine ⟨r1, r6, r7, fun i hi => ?_, r4, r5, r2, r3⟩
    show hQ r.2 r.1 i = _
    rw [r8 i (by omega), a7 i hi, nd_get hi]
theorem J33_init {q pr it nx : Nat} (hw : Wf G) (hk : hK G q = 19) (hb : γ.2 < q) : wp (f_J33_init γ q pr it nx G) (fun r => hR r 84 q = it ∧ hR r 85 q = nx ∧ hR r 86 q = pr ∧ Fr (fun a => a = q) G r ∧ Wf r ∧ hS r = hS G ∧ hM r = hM G ∧ hI r = hI G) := by
  unfold f_J33_init
  refine wp_ifc (by omega) (wp_pR (okw hk (by decide) hb) (wp_pR (okw (c := 19) hk (by decide) hb) (wp_pR (okw (c := 19) hk (by decide) hb) (wp_some ?_))))
  refine ⟨?_, ?_, ?_, ((((Fr.refl (fun a => a = q) G).sR (Or.inl rfl)).sR (Or.inl rfl)).sR (Or.inl rfl)), ((hw.sR).sR).sR, rfl, rfl, rfl⟩
  · rw [rf (by decide), rf (by decide), rs]
  · rw [rf (by decide), rs]
  · rw [rs]
def LLq (γ : GP) (G : AH) (x : Nat) (ns L : List Nat) : Prop := hK G x = 5 ∧ γ.2 < x ∧ ns.length = L.length ∧ hR G 20 x = nd ns 0 ∧ ns.Nodup ∧
  ∀ i, i < ns.length → hK G (nd ns i) = 19 ∧ γ.2 < nd ns i ∧ hR G 84 (nd ns i) = nd L i ∧ hR G 85 (nd ns i) = nd ns (i + 1) ∧ hR G 86 (nd ns i) = (if i = 0 then 0 else nd ns (i - 1))
theorem LLq.link {β : Type} {Q : β → Prop} {v pred : Nat} {K : Nat → AH → Option β} (hw : Wf G) (hb : γ.2 < hS G) (h : LLq γ G x ns L) (hp : pred = if ns.length = 0 then 0 else nd ns (ns.length - 1))
    (k : ∀ r, LLq γ r x (ns ++ [hS G]) (L ++ [v]) → Fr (LLp x ns) G r → Wf r → hS r = hS G + 1 → hM r = hM G + 3 → (∀ f a, a < hS G → hI r f a = hI G f a) → wp (K (hS G) r) Q) :
    wp (mO G 19 fun q g => bV (if q ≠ 0 then f_J33_init γ q pred v 0 g else none) fun g17 => (if pred = 0 then pR γ g17 x 20 q fun g18 => K q g18 else pR γ g17 pred 85 q fun g19 => K q g19)) Q := by
  obtain ⟨h1, h2, h3, h4, h5, h6⟩ := h
  obtain ⟨n1, n2, n3, n4⟩ := newObj (c := 19) (n := cInst 19) hw
  have lx := hw.k h1 (by decide)
  have hnl : ∀ i, i < ns.length → nd ns i < hS G := fun i hi => hw.k (h6 i hi).1 (by decide)
  have hnx : ∀ i, i < ns.length → nd ns i ≠ x := fun i hi e => by
    have := (h6 i hi).1
    rw [e, h1] at this
    exact absurd this (by decide)
  refine wp_mO (wp_bV ?_)
  rw [if_pos n4]
  refine wp_mono (J33_init n2 n3 hb) (fun r1 hr => ?_)
  obtain ⟨i1, i2, i3, i4, i5, i6, i7, i8⟩ := hr
  have hi8 : ∀ f a, a < hS G → hI r1 f a = hI G f a := fun f a ha => by rw [i8, hI_nO, if_neg (by omega)]
  have f1 : Fr (fun _ => False) G r1 := n1.trans i4 (fun b e => Or.inr (by rw [e]; exact Nat.le_refl _))
  have s1 : hS r1 = hS G + 1 := i6
  have m1 : hM r1 = hM G + 3 := i7
  have kx : hK r1 x = 5 := by rw [(f1.2.2.1 x lx).1]; exact h1
  have kq : hK r1 (hS G) = 19 := by rw [(i4.2.2.1 (hS G) (Nat.lt_succ_self _)).1]; exact n3
  have old : ∀ i, i < ns.length → hK r1 (nd ns i) = 19 ∧ hR r1 84 (nd ns i) = nd L i ∧ hR r1 85 (nd ns i) = nd ns (i + 1) ∧ hR r1 86 (nd ns i) = (if i = 0 then 0 else nd ns (i - 1)) := fun i hi => by
    have s := f1.2.2.2 _ (hnl i hi) (fun q => q)
    have o := h6 i hi
    exact ⟨by rw [(f1.2.2.1 _ (hnl i hi)).1]; exact o.1, by rw [s.2.1]; exact o.2.2.1, by rw [s.2.1]; exact o.2.2.2.1, by rw [s.2.1]; exact o.2.2.2.2⟩
  have hnd : (ns ++ [hS G]).Nodup := by
    refine List.nodup_append.mpr ⟨h5, (by simp), ?_⟩
    intro a ha b hbb e
    rw [List.mem_singleton.mp hbb] at e
    obtain ⟨i, hi, e2⟩ := List.getElem_of_mem ha
    have := hnl i hi
    rw [nd_get hi, e2, e] at this
    omega
  have hlen : (ns ++ [hS G]).length = (L ++ [v]).length := by rw [List.length_append, List.length_append, h3]; rfl
  have fx : Fr (LLp x ns) G r1 := f1.mono (fun _ _ q => q.elim)
  by_cases c0 : ns.length = 0
  · have en : ns = [] := List.eq_nil_of_length_eq_zero c0
    have eL : L = [] := List.eq_nil_of_length_eq_zero (by omega)
    rw [if_pos c0] at hp
    rw [if_pos hp]
    refine wp_pR (okw kx (by decide) h2) (k _ ⟨kx, h2, hlen, ?_, hnd, fun i hi => ?_⟩ (fx.sR (Or.inl (Or.inl rfl))) i5.sR s1 m1 hi8)
    · rw [rs, en]; rfl
    · rw [en] at hi ⊢
      have hi0 : i = 0 := by
        have : i < 1 := hi
        omega
      subst hi0
      rw [eL]
      show hK r1 (hS G) = 19 ∧ γ.2 < hS G ∧ hR (sR r1 20 x (hS G)) 84 (hS G) = v ∧ hR (sR r1 20 x (hS G)) 85 (hS G) = 0 ∧ hR (sR r1 20 x (hS G)) 86 (hS G) = 0
      rw [rf (by decide), rf (by decide), rf (by decide), i1, i2, i3, hp]
      exact ⟨kq, hb, rfl, rfl, rfl⟩
  · rw [if_neg c0] at hp
    have hl0 : ns.length - 1 < ns.length := by omega
    have hpn : pred ≠ 0 := by
      have := (h6 _ hl0).2.1
      rw [hp]; omega
    rw [if_neg hpn, hp]
    have kp := (old _ hl0).1
    refine wp_pR (okw kp (by decide) (h6 _ hl0).2.1) (k _ ⟨kx, h2, hlen, ?_, hnd, fun i hi => ?_⟩ (fx.sR (Or.inl (Or.inr (nd_mem hl0)))) i5.sR s1 m1 hi8)
    · rw [rf (by decide), (f1.2.2.2 x lx (fun q => q)).2.1, h4, nd_app (by omega)]
    · rw [List.length_append, List.length_singleton] at hi
      rw [rf (f2 := 84) (by decide), rf (f2 := 86) (by decide)]
      by_cases ci : i < ns.length
      · rw [nd_app ci]
        have o := old i ci
        refine ⟨o.1, (h6 i ci).2.1, by rw [nd_app (by omega)]; exact o.2.1, ?_, ?_⟩
        · by_cases ce : i = ns.length - 1
          · subst ce
            rw [rs, show ns.length - 1 + 1 = ns.length from by omega, nd_last]
          · rw [ra (fun e => ce (nd_inj h5 ci hl0 e)), o.2.2.1, nd_app (by omega)]
        · rw [o.2.2.2]
          by_cases cz : i = 0
          · rw [if_pos cz, if_pos cz]
          · rw [if_neg cz, if_neg cz, nd_app (by omega)]
      · have ei : i = ns.length := by omega
        subst ei
        rw [nd_last, h3, nd_last]
        refine ⟨kq, hb, i1, ?_, ?_⟩
        · have e1 : hS G ≠ nd ns (L.length - 1) := by
            have := hnl _ hl0
            rw [← h3]
            omega
          rw [ra e1, i2, nd_out (by rw [List.length_append]; show ns.length + 1 ≤ _; omega)]
        · rw [i3, hp, if_neg (by omega), h3, nd_app (by omega)]
theorem drop_nd {M : List Nat} {t : Nat} (h : t < M.length) : M.drop t = nd M t :: M.drop (t + 1) := by
  rw [List.drop_eq_getElem_cons h, nd_get h]
theorem LLq.loop {Q : Int32 × AH → Prop} {a x6 : Nat} {x4 : Int32} {M : List Nat} {K : Nat → AH → Option (Int32 × AH)} (hM9 : M.length < 10000000) (n : Nat) :
    ∀ (t : Nat) (ns L : List Nat) (G : AH) (pred : Nat), M.length - t < n → t ≤ M.length → Wf G → γ.2 < hS G → LLq γ G x ns L → pred = (if ns.length = 0 then 0 else nd ns (ns.length - 1)) → hK G a = 106 → hL G a = M.length → (∀ i, i < M.length → hQ G a i = nd M i) →
    (∀ r ns2 pred2, LLq γ r x ns2 (L ++ M.drop t) → pred2 = (if ns2.length = 0 then 0 else nd ns2 (ns2.length - 1)) → (∀ b ∈ ns2, b ∈ ns ∨ hS G ≤ b) → Fr (LLp x ns) G r → Wf r → hS r = hS G + (M.length - t) → hM r = hM G + 3 * (M.length - t) → (∀ f a, a < hS G → hI r f a = hI G f a) → wp (K pred2 r) Q) →
    wp (f_J4_addAll_2_L68 γ x x4 x6 a (Int32.ofNat M.length) K n pred (Int32.ofNat t) G) Q := by
  induction n with
  | zero => intro t ns L G pred hk; exact absurd hk (Nat.not_lt_zero _)
  | succ n ih =>
    intro t ns L G pred hn ht hw hb h hp ka la qa k
    unfold f_J4_addAll_2_L68
    by_cases c : M.length ≤ t
    · rw [if_pos ((i_le (by omega) (by omega)).mpr c)]
      refine k G ns pred ?_ hp (fun b hbb => Or.inl hbb) (Fr.refl _ _) hw (by omega) (by omega) (fun _ _ _ => rfl)
      rw [List.drop_eq_nil_of_le c, List.append_nil]; exact h
    · rw [if_neg (fun e => c ((i_le (by omega) (by omega)).mp e)), gQ_ok (okx ka la (by omega) (by omega)), i_nat (by omega), qa t (by omega)]
      have ht2 : t < M.length := by omega
      have lA := hw.k ka (by decide)
      refine LLq.link hw hb h hp (fun r h1 f1 w1 s1 m1 g1 => ?_)
      have na : ¬ LLp x ns a := fun q => by
        rcases q with e | e
        · rw [e, h.1] at ka; exact absurd ka (by decide)
        · obtain ⟨i, hi, e2⟩ := List.getElem_of_mem e
          have := (h.2.2.2.2.2 i hi).1
          rw [nd_get hi, e2, ka] at this
          exact absurd this (by decide)
      have sa := f1.2.2.2 a lA na
      have ka2 := f1.2.2.1 a lA
      have e1 : Int32.ofNat t + 1 = Int32.ofNat (t + 1) := i_add t 1
      rw [e1]
      refine ih (t + 1) (ns ++ [hS G]) (L ++ [nd M t]) r (hS G) (by omega) (by omega) w1 (by omega) h1 ?_ (by rw [ka2.1]; exact ka) (by rw [ka2.2]; exact la) (fun i hi => by rw [sa.2.2.2.1]; exact qa i hi) (fun r2 ns2 p2 q1 q2 q3 q4 q5 q6 q7 q8 => k r2 ns2 p2 ?_ q2 (fun b hbb => ?_) ?_ q5 (by omega) (by omega) (fun f b hbb => by rw [q8 f b (by omega)]; exact g1 f b hbb))
      · rw [List.length_append, List.length_singleton, if_neg (by omega), Nat.add_sub_cancel, nd_last]
      · rw [drop_nd ht2]
        rw [List.append_assoc] at q1
        exact q1
      · rcases q3 b hbb with e | e
        · rcases List.mem_append.mp e with e | e
          · exact Or.inl e
          · rw [List.mem_singleton.mp e]; exact Or.inr (Nat.le_refl _)
        · exact Or.inr (by omega)
      · refine f1.trans q4 (fun b hbb => ?_)
        rcases hbb with e | e
        · exact Or.inl (Or.inl e)
        · rcases List.mem_append.mp e with e | e
          · exact Or.inl (Or.inr e)
          · rw [List.mem_singleton.mp e]; exact Or.inr (Nat.le_refl _)
end JL
