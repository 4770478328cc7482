def passP : Nat → St × List Ms → St × List Ms
  | 0, q => q
  | n + 1, q => passP n (minP q)
def nowN (q : St × List Ms) : Nat := (q.2.filter (isNow (usg q.1 0 (sg q.1 0 + 1)))).length
/-- cells and slots that minutes cost -/
def passC : Nat → St × List Ms → Nat
  | 0, _ => 0
  | n + 1, q => (229 + 2 * q.2.length + 16 * nowN q) + passC n (minP q)
def passS : Nat → St × List Ms → Nat
  | 0, _ => 0
  | n + 1, q => (1183 + 12 * q.2.length + 100 * nowN q) + passS n (minP q)
def preJ (J : St → List Ms → List Ms → Prop) (q : St × List Ms) : Prop := J (usg q.1 0 (sg q.1 0 + 1)) (q.2.filter (isNow (usg q.1 0 (sg q.1 0 + 1)))) (q.2.filter (fun m => !isNow (usg q.1 0 (sg q.1 0 + 1)) m))
section C13
variable {γ : GP} {G G1 : AH} {ga : Nat → Nat} {tr : Nat → List Nat} {et : Nat → Nat → Nat} {S : St} {hb : Nat → Prop} {ms : List Ms}
theorem KS.passLoop {J : St → List Ms → List Ms → Prop} {M : Nat → St × List Ms → Prop} (hJ : JC J) (hM : ∀ k q, M (k + 1) q → q.2.length < 90000 ∧ preJ J q ∧ M k (minP q)) {m : Nat} {b4 : Int32} (hm : m < 1000) {K : AH → Option (Int32 × AH)} {Q : Int32 × AH → Prop} (n : Nat) :
    ∀ (i : Nat) (q : St × List Ms) (G : AH), m - i < n → i ≤ m → KS γ ga tr et hb q.1 q.2 G → M (m - i) q →
    (∀ r, KS γ ga tr et hb (passP (m - i) q).1 (passP (m - i) q).2 r → Stq hb G r (passC (m - i) q) (passS (m - i) q) → wp (K r) Q) →
    wp (f_X2_passes_L7 γ (ga 1) (Int32.ofNat m) b4 K n (Int32.ofNat i) G) Q := by
  induction n with
  | zero => intro i q G hk; exact absurd hk (Nat.not_lt_zero _)
  | succ n ih =>
    intro i q G hn hi h p kk
    unfold f_X2_passes_L7
    by_cases c : m ≤ i
    · rw [if_pos ((i_le (by omega) (by omega)).mpr c)]
      have e : m - i = 0 := by omega
      rw [e] at kk
      exact kk G h (Stq.refl h.1 _ _)
    · rw [if_neg (fun e => c ((i_le (by omega) (by omega)).mp e))]
      have e : m - i = (m - (i + 1)) + 1 := by omega
      rw [e] at kk p
      obtain ⟨pl, pj, pm⟩ := hM _ q p
      rw [gI_ok (okf h.isK (by decide)), h.k1.2.2.2.2.2.1]
      refine h.pMin (fun h1 s1 => ?_)
      refine wp_bV (wp_ifc h1.isK (wp_mono (h1.allArrive hJ.1 pj pl) (fun r2 hr2 => ?_)))
      obtain ⟨h2, s2⟩ := hr2
      have p2 : J (minA q).1 [] (minA q).2 := arrJ hJ _ _ pj
      refine wp_bV (wp_ifc h2.isK (wp_mono (KS.patJ (S := (minA q).1) (ms := (minA q).2) hJ h2 p2) (fun r3 hr3 => ?_)))
      obtain ⟨h3, s3⟩ := hr3
      have p3 : J (minB q).1 [] (minB q).2 := patJ_end hJ _ _ _ (by show 0 + nc (minA q).1 ≤ nc (minA q).1; omega) p2
      have o3 := hJ.2.2 _ _ p3
      refine wp_bV (wp_ifc h3.isK (wp_mono (KS.allAsk (S := (minB q).1) (ms := (minB q).2) h3 o3.1 o3.2) (fun r4 hr4 => ?_)))
      rw [i_one]
      have st := ((s1.trans h.1 s2).trans h.1 s3).trans h.1 hr4.2
      refine ih (i + 1) (minP q) r4 (by omega) (by omega) hr4.1 pm (fun r h5 s5 => kk r h5 ?_)
      refine (st.trans h.1 s5).mono ?_ ?_
      · show _ ≤ (229 + 2 * q.2.length + 16 * nowN q) + passC (m - (i + 1)) (minP q)
        unfold nowN
        omega
      · show _ ≤ (1183 + 12 * q.2.length + 100 * nowN q) + passS (m - (i + 1)) (minP q)
        unfold nowN
        omega
theorem KS.passes {J : St → List Ms → List Ms → Prop} {M : Nat → St × List Ms → Prop} (hJ : JC J) (hM : ∀ k q, M (k + 1) q → q.2.length < 90000 ∧ preJ J q ∧ M k (minP q)) {m : Nat} (hm : m < 1000) (h : KS γ ga tr et hb S ms G) (p : M m (S, ms)) :
    wp (f_X2_passes γ (ga 1) (Int32.ofNat m) G) (fun r => r.1 = decidedP (passP m (S, ms)).1 - decidedP S ∧ KS γ ga tr et hb (passP m (S, ms)).1 (passP m (S, ms)).2 r.2 ∧ Stq hb G r.2 (4 + passC m (S, ms)) (16 + passS m (S, ms))) := by
  unfold f_X2_passes
  refine wp_bI (wp_ifc h.isK (wp_mono h.decided (fun r hr => ?_)))
  obtain ⟨r1, h1, s1⟩ := hr
  refine KS.passLoop hJ hM hm FU 0 (S, ms) r.2 (by show m - 0 < 4294967296; omega) (Nat.zero_le _) h1 p (fun r2 h2 s2 => ?_)
  rw [Nat.sub_zero] at h2 s2
  refine wp_bI (wp_ifc h2.isK (wp_mono h2.decided (fun r3 hr3 => wp_some ⟨?_, hr3.2.1, ?_⟩)))
  · rw [hr3.1, r1]
  · exact ((s1.trans h.1 s2).trans h.1 hr3.2.2).mono (by omega) (by omega)
end C13
