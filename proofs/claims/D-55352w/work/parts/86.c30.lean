/-! in how many minutes nobody is in doubt about a course -/
def clrN (j : Nat) : Nat → St × List Ms → Nat
  | 0, _ => 0
  | m + 1, q => if cnt q.1 j 1 = 0 then 0 else clrN j m (minP q) + 1
def clearP (j : Nat) (q : St × List Ms) : Int32 := if cnt (passP (clrN j 60 q) q).1 j 1 = 0 then Int32.ofNat (clrN j 60 q) else -1
section C30
variable {γ : GP} {G G1 : AH} {ga : Nat → Nat} {tr : Nat → List Nat} {et : Nat → Nat → Nat} {S : St} {hb B : Nat → Prop} {ms : List Ms}
theorem clrN_le (j : Nat) (m : Nat) : ∀ q, clrN j m q ≤ m := by
  induction m with
  | zero => intro q; exact Nat.le_refl _
  | succ m ih =>
    intro q
    show (if cnt q.1 j 1 = 0 then 0 else clrN j m (minP q) + 1) ≤ _
    split
    · omega
    · have := ih (minP q); omega
theorem KS.clrLoop {J : St → List Ms → List Ms → Prop} {M : Nat → St × List Ms → Prop} (hJ : JC J) (hM : ∀ k q, M (k + 1) q → q.2.length < 90000 ∧ preJ J q ∧ M k (minP q)) {j : Nat} (hN : ∀ k q, M k q → j < nc q.1) (h1M : ∀ k q, M (k + 1) q → M 1 q) {K : Int32 → AH → Option (Int32 × AH)} {Q : Int32 × AH → Prop} (n : Nat) :
    ∀ (i : Nat) (q : St × List Ms) (G : AH), 60 - i < n → i ≤ 60 → KS γ ga tr et hb q.1 q.2 G → M (60 - i) q →
    (∀ r, KS γ ga tr et hb (passP (clrN j (60 - i) q) q).1 (passP (clrN j (60 - i) q) q).2 r → j < nc (passP (clrN j (60 - i) q) q).1 → Stq hb G r (6 * (60 - i) + 2 + passC (60 - i) q) (21 * (60 - i) + 5 + passS (60 - i) q) → wp (K (Int32.ofNat (i + clrN j (60 - i) q)) r) Q) →
    wp (f_X2_clearIn_L7 γ (Int32.ofNat j) (ga 1) K n (Int32.ofNat i) G) Q := by
  induction n with
  | zero => intro i q G hk; exact absurd hk (Nat.not_lt_zero _)
  | succ n ih =>
    intro i q G hn hi h p kk
    unfold f_X2_clearIn_L7
    by_cases c : 60 ≤ i
    · rw [if_pos (show (60 : Int32) ≤ Int32.ofNat i by rw [show (60 : Int32) = Int32.ofNat 60 from rfl]; exact (i_le (by omega) (by omega)).mpr c)]
      have e : 60 - i = 0 := by omega
      rw [e] at kk
      exact kk G h (hN _ q p) (Stq.refl h.1 _ _)
    · rw [if_neg (show ¬ (60 : Int32) ≤ Int32.ofNat i by rw [show (60 : Int32) = Int32.ofNat 60 from rfl]; exact fun e => c ((i_le (by omega) (by omega)).mp e))]
      have e : 60 - i = (60 - (i + 1)) + 1 := by omega
      rw [e] at kk p
      have hj := hN _ q p
      have hc6 := cnt_le (S := q.1) (j := j) (v := 1)
      rw [if_pos h.isK, h.course hj, bR_some, show γ.1 11 = howA γ 1 from rfl]
      refine wp_bI (wp_ifc (h.ko hj).1 (wp_mono (h.cntO hj (Or.inr (Or.inl rfl))) (fun r hr => ?_)))
      obtain ⟨r1, h1, s1⟩ := hr
      have s1' : Stq hb G r.2 2 5 := s1.emp
      rw [r1]
      have ez : Int32.ofNat (cnt q.1 j 1) ≤ 0 ↔ cnt q.1 j 1 = 0 := by
        rw [show (0 : Int32) = Int32.ofNat 0 from rfl, i_le (by omega) (by omega)]; omega
      have en : clrN j (60 - (i + 1) + 1) q = if cnt q.1 j 1 = 0 then 0 else clrN j (60 - (i + 1)) (minP q) + 1 := rfl
      rw [en] at kk
      by_cases c0 : cnt q.1 j 1 = 0
      · rw [if_pos (ez.mpr c0)]
        rw [if_pos c0] at kk
        exact kk r.2 h1 hj (s1'.mono (by omega) (by omega))
      · rw [if_neg (fun e => c0 (ez.mp e))]
        rw [if_neg c0] at kk
        refine wp_bI (wp_ifc h1.isK (wp_mono (KS.passes (S := q.1) (ms := q.2) (m := 1) hJ hM (by decide) h1 (h1M _ q p)) (fun r2 hr2 => ?_)))
        obtain ⟨_, h2, s2⟩ := hr2
        have s12 := s1'.trans h.1 s2
        rw [i_one]
        refine ih (i + 1) (minP q) r2.2 (by omega) (by omega) h2 (hM _ q p).2.2 (fun r3 h3 p3 s3 => ?_)
        rw [show i + 1 + clrN j (60 - (i + 1)) (minP q) = i + (clrN j (60 - (i + 1)) (minP q) + 1) from by omega]
        have sx := s12.trans h.1 s3
        have pc : passC (60 - (i + 1) + 1) q = (229 + 2 * q.2.length + 16 * nowN q) + passC (60 - (i + 1)) (minP q) := rfl
        have ps : passS (60 - (i + 1) + 1) q = (1183 + 12 * q.2.length + 100 * nowN q) + passS (60 - (i + 1)) (minP q) := rfl
        have pc1 : passC 1 (q.1, q.2) = (229 + 2 * q.2.length + 16 * nowN q) + 0 := rfl
        have ps1 : passS 1 (q.1, q.2) = (1183 + 12 * q.2.length + 100 * nowN q) + 0 := rfl
        rw [pc, ps] at kk
        rw [pc1, ps1] at sx
        exact kk r3 h3 p3 (sx.mono (by omega) (by omega))
theorem KS.clearIn {J : St → List Ms → List Ms → Prop} {M : Nat → St × List Ms → Prop} (hJ : JC J) (hM : ∀ k q, M (k + 1) q → q.2.length < 90000 ∧ preJ J q ∧ M k (minP q)) {j : Nat} (hN : ∀ k q, M k q → j < nc q.1) (h1M : ∀ k q, M (k + 1) q → M 1 q) (o : Ok S) (h0 : KS γ ga tr et B S ms G) (p : M 60 (S, ms)) :
    wp (f_X2_clearIn γ (ga 1) (Int32.ofNat j) G) (fun r => r.1 = clearP j (S, ms) ∧ KS γ ga tr et B S ms r.2 ∧ Stq (fun a => hS G ≤ a) G r.2 (600 + ms.length + passC 60 (S, ms)) (3000 + 4 * ms.length + passS 60 (S, ms))) := by
  have hl := (hM 59 _ p).1
  unfold f_X2_clearIn
  refine wp_bR (wp_ifc h0.isK (wp_mono (h0.copy o (by have : ms.length < 90000 := hl; omega)) (fun r hr => ?_)))
  obtain ⟨r1, ⟨gt, tr1, et1, e1, h1⟩, f1, w1, s1, m1⟩ := hr
  rw [r1, ← e1]
  have S1 : Stq (fun a => hS G ≤ a) G r.2 (195 + ms.length) (1477 + 4 * ms.length) := ⟨f1, w1, s1, m1⟩
  refine KS.clrLoop hJ hM hN h1M FU 0 (S, ms) r.2 (by show 60 - 0 < 4294967296; decide) (by decide) h1 p (fun r2 h2 p2 s2 => ?_)
  rw [Nat.sub_zero] at h2 p2 s2
  rw [Nat.sub_zero, Nat.zero_add]
  have hj := p2
  have hc6 := cnt_le (S := (passP (clrN j 60 (S, ms)) (S, ms)).1) (j := j) (v := 1)
  rw [if_pos h2.isK, h2.course hj, bR_some, show γ.1 11 = howA γ 1 from rfl]
  refine wp_bI (wp_ifc (h2.ko hj).1 (wp_mono (h2.cntO hj (Or.inr (Or.inl rfl))) (fun r3 hr3 => ?_)))
  obtain ⟨r31, h3, s3⟩ := hr3
  have sx : Stq (fun a => hS G ≤ a) G r3.2 (600 + ms.length + passC 60 (S, ms)) (3000 + 4 * ms.length + passS 60 (S, ms)) := ((S1.trans h0.1 s2).trans h0.1 s3.emp).mono (by omega) (by omega)
  have sx' : Stq (fun a => gt 1 ≤ a) G r3.2 (600 + ms.length + passC 60 (S, ms)) (3000 + 4 * ms.length + passS 60 (S, ms)) := by rw [e1]; exact sx
  have hk : KS γ ga tr et B S ms r3.2 := h0.keepAll h3.1 sx.1 (fun a q => q)
  rw [r31]
  have ez : Int32.ofNat (cnt (passP (clrN j 60 (S, ms)) (S, ms)).1 j 1) ≤ 0 ↔ cnt (passP (clrN j 60 (S, ms)) (S, ms)).1 j 1 = 0 := by
    rw [show (0 : Int32) = Int32.ofNat 0 from rfl, i_le (by omega) (by omega)]; omega
  unfold clearP
  refine wp_ite (fun e => wp_some ⟨?_, hk, sx'⟩) (fun e => wp_some ⟨?_, hk, sx'⟩)
  · rw [if_pos (ez.mp e)]
  · rw [if_neg (fun q => e (ez.mpr q))]
end C30
