section KM
variable {γ : GP} {G : AH} {ga : Nat → Nat} {tr : Nat → List Nat} {et : Nat → Nat → Nat} {S : St} {hb : Nat → Prop} {ms : List Ms}
theorem Fc.st1 {a f c : Nat} {v : Int32} (hw : Wf G) (hk : hK G a = c) (hc : c ≠ 15 ∧ c ≠ 21 ∧ c ≠ 26) (ho : hb a) : Fc hb G (sI G f a v) :=
  (((Fr.refl (fun b => b = a) G).sI (Or.inl rfl)).toC hw (fun b _ e => by rw [e, hk]; exact hc)).mono (fun b _ e => by rw [e]; exact ho)
theorem Fc.st2 {a f c v : Nat} (hw : Wf G) (hk : hK G a = c) (hc : c ≠ 15 ∧ c ≠ 21 ∧ c ≠ 26) (ho : hb a) : Fc hb G (sR G f a v) :=
  (((Fr.refl (fun b => b = a) G).sR (Or.inl rfl)).toC hw (fun b _ e => by rw [e, hk]; exact hc)).mono (fun b _ e => by rw [e]; exact ho)
theorem Fc.st3 {a i c : Nat} {v : Int32} (hw : Wf G) (hk : hK G a = c) (hc : c ≠ 15 ∧ c ≠ 21 ∧ c ≠ 26) (ho : hb a) : Fc hb G (sA G a i v) :=
  (((Fr.refl (fun b => b = a) G).sA (Or.inl rfl)).toC hw (fun b _ e => by rw [e, hk]; exact hc)).mono (fun b _ e => by rw [e]; exact ho)
theorem KS.base (h : KS γ ga tr et hb S ms G) : ∃ own, Kt γ G own ga tr et hb S ms ∧ ∀ a t, own a = t → t ≠ 0 → t ≠ 9 → hb a := by
  obtain ⟨_, _, _, _, own, k⟩ := h
  exact ⟨own, k, fun a t e h0 h9 => k.1.2.2.1 a (by rw [e]; exact h0) (by rw [e]; exact h9)⟩
theorem KS.ge1 (h : KS γ ga tr et hb S ms G) : hb (ga 1) := by
  obtain ⟨own, k, b⟩ := h.base
  exact b _ 1 k.2.1.2.2.1 (by decide) (by decide)
theorem KS.ge4 (h : KS γ ga tr et hb S ms G) : hb (ga 4) := by
  obtain ⟨own, k, b⟩ := h.base
  exact b _ 4 k.2.2.2.2.1.2.2.1 (by decide) (by decide)
theorem KS.geC (h : KS γ ga tr et hb S ms G) {i : Nat} (hi : i < nk S) : hb (ga (10 + i)) := by
  obtain ⟨own, k, b⟩ := h.base
  exact b _ (10 + i) (k.2.2.2.2.2.2.2.1 i hi).2.2.1 (by omega) (by omega)
theorem KS.geA (h : KS γ ga tr et hb S ms G) {i b : Nat} (hi : i < nk S) (hbb : b < 3) : hb (ga (30 + 3 * i + b)) := by
  obtain ⟨own, k, b0⟩ := h.base
  exact b0 _ (30 + 3 * i + b) (k.2.2.2.2.2.2.2.2.2.1 i hi b hbb).2.2.2.1 (by omega) (by omega)
theorem KS.geO (h : KS γ ga tr et hb S ms G) {j : Nat} (hj : j < nc S) : hb (ga (60 + j)) := by
  obtain ⟨own, k, b⟩ := h.base
  exact b _ (60 + j) (k.2.2.2.2.2.2.2.2.2.2.1 j hj).2.2.1 (by omega) (by omega)
theorem KS.geD (h : KS γ ga tr et hb S ms G) {j d : Nat} (hj : j < nc S) (hd : d < 6) (hx : isD S j d) : hb (ga (80 + 6 * j + d)) := by
  obtain ⟨own, k, b⟩ := h.base
  exact b _ (80 + 6 * j + d) (k.2.2.2.2.2.2.2.2.2.2.2.2 j hj d hd hx).2.2.1 (by omega) (by omega)
theorem KS.st {G1 : AH} {S1 : St} (h : KS γ ga tr et hb S ms G) (k : ∀ own, Kt γ G own ga tr et hb S ms → Kt γ G1 own ga tr et hb S1 ms) (hs : hS G1 ≤ hS G) (hw1 : Wf G1) (hF : Fc hb G G1) (hm : hM G1 ≤ hM G := by exact Nat.le_refl _) : KS γ ga tr et hb S1 ms G1 ∧ Stq hb G G1 0 0 := by
  obtain ⟨h1, h2, h3, h4, own, h5⟩ := h
  exact ⟨⟨hw1, h2.keep hF h3, h3, (fun a q => h4 a (Nat.le_trans hF.le q)), own, k own h5⟩, hF, hw1, hs, hm⟩
theorem KS.pMin (h : KS γ ga tr et hb S ms G) {v : Int32} {β : Type} {Q : β → Prop} {K : AH → Option β} (k : KS γ ga tr et hb (usg S 0 v) ms (sI G 12 (ga 1) v) → Stq hb G (sI G 12 (ga 1) v) 0 0 → wp (K (sI G 12 (ga 1) v)) Q) : wp (pI γ G (ga 1) 12 v K) Q := by
  have hge := h.ge1
  have hk := (⟨h.k1.1, h.k1.2.2.2.2.2.2.2⟩ : hK G (ga 1) = 2 ∧ γ.2 < ga 1)
  refine wp_pI ⟨okw hk.1 (by decide) hk.2, rfl, rfl⟩ ?_
  have w := h.st (G1 := (sI G 12 (ga 1) v)) (S1 := (usg S 0 v)) (fun own q => q.min h.1 h.2.1 ) (Nat.le_refl _) h.1.sI (Fc.st1 h.1 hk.1 (by decide) hge)
  exact k w.1 w.2
theorem KS.pLost (h : KS γ ga tr et hb S ms G) {v : Int32} {β : Type} {Q : β → Prop} {K : AH → Option β} (k : KS γ ga tr et hb (usg S 4 v) ms (sI G 13 (ga 1) v) → Stq hb G (sI G 13 (ga 1) v) 0 0 → wp (K (sI G 13 (ga 1) v)) Q) : wp (pI γ G (ga 1) 13 v K) Q := by
  have hge := h.ge1
  have hk := (⟨h.k1.1, h.k1.2.2.2.2.2.2.2⟩ : hK G (ga 1) = 2 ∧ γ.2 < ga 1)
  refine wp_pI ⟨okw hk.1 (by decide) hk.2, rfl, rfl⟩ ?_
  have w := h.st (G1 := (sI G 13 (ga 1) v)) (S1 := (usg S 4 v)) (fun own q => q.lost h.1 h.2.1 ) (Nat.le_refl _) h.1.sI (Fc.st1 h.1 hk.1 (by decide) hge)
  exact k w.1 w.2
theorem KS.pOut (h : KS γ ga tr et hb S ms G) {v : Int32} (hv : v = 0 ∨ v = 1) {β : Type} {Q : β → Prop} {K : AH → Option β} (k : KS γ ga tr et hb (usg S 3 v) ms (sI G 17 (ga 4) v) → Stq hb G (sI G 17 (ga 4) v) 0 0 → wp (K (sI G 17 (ga 4) v)) Q) : wp (pI γ G (ga 4) 17 v K) Q := by
  have hge := h.ge4
  have hk := (⟨h.k4.1, h.k4.2.2.2⟩ : hK G (ga 4) = 4 ∧ γ.2 < ga 4)
  have hf : narrow (fTy 17) (.int v) = .int v ∧ fits (fTy 17) (.int v) = true := by rcases hv with e | e <;> subst e <;> exact ⟨rfl, rfl⟩
  refine wp_pI ⟨okw hk.1 (by decide) hk.2, hf⟩ ?_
  have w := h.st (G1 := (sI G 17 (ga 4) v)) (S1 := (usg S 3 v)) (fun own q => q.out h.1 h.2.1 ) (Nat.le_refl _) h.1.sI (Fc.st1 h.1 hk.1 (by decide) hge)
  exact k w.1 w.2
theorem KS.pFaint (h : KS γ ga tr et hb S ms G) {i : Nat} {v : Int32} (hi : i < nk S) (hv : v = 0 ∨ v = 1) {β : Type} {Q : β → Prop} {K : AH → Option β} (k : KS γ ga tr et hb (usk S i 1 v) ms (sI G 17 (ga (10 + i)) v) → Stq hb G (sI G 17 (ga (10 + i)) v) 0 0 → wp (K (sI G 17 (ga (10 + i)) v)) Q) : wp (pI γ G (ga (10 + i)) 17 v K) Q := by
  have hge := h.geC hi
  have hk := (⟨(h.kc hi).1, (h.kc hi).2.2.2.2.2.2.2⟩ : hK G (ga (10 + i)) = 16 ∧ γ.2 < ga (10 + i))
  have hf : narrow (fTy 17) (.int v) = .int v ∧ fits (fTy 17) (.int v) = true := by rcases hv with e | e <;> subst e <;> exact ⟨rfl, rfl⟩
  refine wp_pI ⟨okw hk.1 (by decide) hk.2, hf⟩ ?_
  have w := h.st (G1 := (sI G 17 (ga (10 + i)) v)) (S1 := (usk S i 1 v)) (fun own q => q.faint h.1 h.2.1 hi) (Nat.le_refl _) h.1.sI (Fc.st1 h.1 hk.1 (by decide) hge)
  exact k w.1 w.2
theorem KS.pPhase (h : KS γ ga tr et hb S ms G) {j : Nat} {v : Int32} (hj : j < nc S) {β : Type} {Q : β → Prop} {K : AH → Option β} (k : KS γ ga tr et hb (usc S j 0 v) ms (sI G 88 (ga (60 + j)) v) → Stq hb G (sI G 88 (ga (60 + j)) v) 0 0 → wp (K (sI G 88 (ga (60 + j)) v)) Q) : wp (pI γ G (ga (60 + j)) 88 v K) Q := by
  have hge := h.geO hj
  have hk := (⟨(h.ko hj).1, (h.ko hj).2.2.2.2.2.2⟩ : hK G (ga (60 + j)) = 20 ∧ γ.2 < ga (60 + j))
  refine wp_pI ⟨okw hk.1 (by decide) hk.2, rfl, rfl⟩ ?_
  have w := h.st (G1 := (sI G 88 (ga (60 + j)) v)) (S1 := (usc S j 0 v)) (fun own q => q.phase h.1 h.2.1 hj) (Nat.le_refl _) h.1.sI (Fc.st1 h.1 hk.1 (by decide) hge)
  exact k w.1 w.2
theorem KS.pAsked (h : KS γ ga tr et hb S ms G) {j : Nat} {v : Int32} (hj : j < nc S) {β : Type} {Q : β → Prop} {K : AH → Option β} (k : KS γ ga tr et hb (usc S j 1 v) ms (sI G 89 (ga (60 + j)) v) → Stq hb G (sI G 89 (ga (60 + j)) v) 0 0 → wp (K (sI G 89 (ga (60 + j)) v)) Q) : wp (pI γ G (ga (60 + j)) 89 v K) Q := by
  have hge := h.geO hj
  have hk := (⟨(h.ko hj).1, (h.ko hj).2.2.2.2.2.2⟩ : hK G (ga (60 + j)) = 20 ∧ γ.2 < ga (60 + j))
  refine wp_pI ⟨okw hk.1 (by decide) hk.2, rfl, rfl⟩ ?_
  have w := h.st (G1 := (sI G 89 (ga (60 + j)) v)) (S1 := (usc S j 1 v)) (fun own q => q.asked h.1 h.2.1 hj) (Nat.le_refl _) h.1.sI (Fc.st1 h.1 hk.1 (by decide) hge)
  exact k w.1 w.2
theorem KS.pDecided (h : KS γ ga tr et hb S ms G) {j : Nat} {v : Int32} (hj : j < nc S) {β : Type} {Q : β → Prop} {K : AH → Option β} (k : KS γ ga tr et hb (usc S j 2 v) ms (sI G 90 (ga (60 + j)) v) → Stq hb G (sI G 90 (ga (60 + j)) v) 0 0 → wp (K (sI G 90 (ga (60 + j)) v)) Q) : wp (pI γ G (ga (60 + j)) 90 v K) Q := by
  have hge := h.geO hj
  have hk := (⟨(h.ko hj).1, (h.ko hj).2.2.2.2.2.2⟩ : hK G (ga (60 + j)) = 20 ∧ γ.2 < ga (60 + j))
  refine wp_pI ⟨okw hk.1 (by decide) hk.2, rfl, rfl⟩ ?_
  have w := h.st (G1 := (sI G 90 (ga (60 + j)) v)) (S1 := (usc S j 2 v)) (fun own q => q.decided h.1 h.2.1 hj) (Nat.le_refl _) h.1.sI (Fc.st1 h.1 hk.1 (by decide) hge)
  exact k w.1 w.2
theorem KS.pVotes (h : KS γ ga tr et hb S ms G) {j n : Nat} (hj : j < nc S) {β : Type} {Q : β → Prop} {K : AH → Option β} (k : KS γ ga tr et hb (usv S j n) ms (sI G 91 (ga (60 + j)) (Int32.ofNat n)) → Stq hb G (sI G 91 (ga (60 + j)) (Int32.ofNat n)) 0 0 → wp (K (sI G 91 (ga (60 + j)) (Int32.ofNat n))) Q) : wp (pI γ G (ga (60 + j)) 91 (Int32.ofNat n) K) Q := by
  have hge := h.geO hj
  have hk := (⟨(h.ko hj).1, (h.ko hj).2.2.2.2.2.2⟩ : hK G (ga (60 + j)) = 20 ∧ γ.2 < ga (60 + j))
  refine wp_pI ⟨okw hk.1 (by decide) hk.2, rfl, rfl⟩ ?_
  have w := h.st (G1 := (sI G 91 (ga (60 + j)) (Int32.ofNat n))) (S1 := (usv S j n)) (fun own q => q.votes h.1 h.2.1 hj) (Nat.le_refl _) h.1.sI (Fc.st1 h.1 hk.1 (by decide) hge)
  exact k w.1 w.2
theorem KS.pHow (h : KS γ ga tr et hb S ms G) {j d : Nat} {v : Int32} (hj : j < nc S) (hd : d < 6) (hx : isD S j d) (hv : isHow v) {β : Type} {Q : β → Prop} {K : AH → Option β} (k : KS γ ga tr et hb (usc S j (4 + 4 * d + 2) v) ms (sR G 95 (ga (80 + 6 * j + d)) (howA γ v)) → Stq hb G (sR G 95 (ga (80 + 6 * j + d)) (howA γ v)) 0 0 → wp (K (sR G 95 (ga (80 + 6 * j + d)) (howA γ v))) Q) : wp (pR γ G (ga (80 + 6 * j + d)) 95 (howA γ v) K) Q := by
  have hge := h.geD hj hd hx
  have hk := (⟨(h.kd hj hd hx).1, (h.kd hj hd hx).2.2.2.2.2.2⟩ : hK G (ga (80 + 6 * j + d)) = 22 ∧ γ.2 < ga (80 + 6 * j + d))
  refine wp_pR (okw hk.1 (by decide) hk.2) ?_
  have w := h.st (G1 := (sR G 95 (ga (80 + 6 * j + d)) (howA γ v))) (S1 := (usc S j (4 + 4 * d + 2) v)) (fun own q => q.how h.1 h.2.1 hj hd hx hv) (Nat.le_refl _) h.1.sR (Fc.st2 h.1 hk.1 (by decide) hge)
  exact k w.1 w.2
theorem KS.pSince (h : KS γ ga tr et hb S ms G) {j d : Nat} {v : Int32} (hj : j < nc S) (hd : d < 6) (hx : isD S j d) {β : Type} {Q : β → Prop} {K : AH → Option β} (k : KS γ ga tr et hb (usc S j (4 + 4 * d + 3) v) ms (sI G 96 (ga (80 + 6 * j + d)) v) → Stq hb G (sI G 96 (ga (80 + 6 * j + d)) v) 0 0 → wp (K (sI G 96 (ga (80 + 6 * j + d)) v)) Q) : wp (pI γ G (ga (80 + 6 * j + d)) 96 v K) Q := by
  have hge := h.geD hj hd hx
  have hk := (⟨(h.kd hj hd hx).1, (h.kd hj hd hx).2.2.2.2.2.2⟩ : hK G (ga (80 + 6 * j + d)) = 22 ∧ γ.2 < ga (80 + 6 * j + d))
  refine wp_pI ⟨okw hk.1 (by decide) hk.2, rfl, rfl⟩ ?_
  have w := h.st (G1 := (sI G 96 (ga (80 + 6 * j + d)) v)) (S1 := (usc S j (4 + 4 * d + 3) v)) (fun own q => q.since h.1 h.2.1 hj hd hx) (Nat.le_refl _) h.1.sI (Fc.st1 h.1 hk.1 (by decide) hge)
  exact k w.1 w.2
theorem KS.pArr (h : KS γ ga tr et hb S ms G) {i b y : Nat} {v : Int32} (hi : i < nk S) (hbb : b < 3) (hy : y < 4) {β : Type} {Q : β → Prop} {K : AH → Option β} (k : KS γ ga tr et hb (usk S i (3 + 4 * b + y) v) ms (sA G (ga (30 + 3 * i + b)) y v) → Stq hb G (sA G (ga (30 + 3 * i + b)) y v) 0 0 → wp (K (sA G (ga (30 + 3 * i + b)) y v)) Q) : wp (pA γ G 101 (ga (30 + 3 * i + b)) (Int32.ofNat y) v K) Q := by
  have hge := h.geA hi hbb
  have hk := (⟨(h.ka hi hbb).1, (h.ka hi hbb).2.1, (h.ka hi hbb).2.2.1⟩ : hK G (ga (30 + 3 * i + b)) = 101 ∧ hL G (ga (30 + 3 * i + b)) = 4 ∧ γ.2 < ga (30 + 3 * i + b))
  refine wp_pA ⟨okx hk.1 hk.2.1 hy (by decide), hk.2.2⟩ ?_
  rw [i_nat (by omega)]
  have w := h.st (G1 := (sA G (ga (30 + 3 * i + b)) y v)) (S1 := (usk S i (3 + 4 * b + y) v)) (fun own q => q.arr h.1 h.2.1 hi hbb hy) (Nat.le_refl _) h.1.sA (Fc.st3 h.1 hk.1 (by decide) hge)
  exact k w.1 w.2
end KM
