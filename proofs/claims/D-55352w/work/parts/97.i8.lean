/-! what is known of a kitchen between two calls: u dishes and wakings at most, the time at most tb -/
def Kv (u tb : Nat) (S : St) (ms : List Ms) : Prop := ∃ t δ ω, δ + ω ≤ u ∧ t ≤ tb ∧ Jv t (bM ω δ) δ S [] ms
section I8
variable {S S1 : St} {u tb u1 tb1 : Nat} {ms new : List Ms} {v : Int32}
theorem bM_le {ω δ k : Nat} (h : δ + ω ≤ u) (h24 : u ≤ 24) : bM ω δ k ≤ 324 ∧ (12 + ω) * δ ≤ 324 := by
  have e12 : (12 + ω) * δ = 12 * δ + δ * ω := by rw [Nat.add_mul, Nat.mul_comm ω]
  have m1 : bM ω δ k ≤ (12 + ω) * δ := Nat.mul_le_mul_right _ (by omega)
  have : (12 + ω) * δ ≤ 324 := by
    have hd : δ ≤ 24 := by omega
    have ho : ω ≤ 24 - δ := by omega
    have m2 : δ * ω ≤ δ * (24 - δ) := Nat.mul_le_mul_left _ ho
    have m3 : 12 * δ + δ * (24 - δ) ≤ 324 := by
      have : ∀ d : Fin 25, 12 * d.val + d.val * (24 - d.val) ≤ 324 := by decide
      exact this ⟨δ, by omega⟩
    omega
  omega
theorem Kv.mono (h : Kv u tb S ms) (h1 : u ≤ u1) (h2 : tb ≤ tb1) : Kv u1 tb1 S ms := by
  obtain ⟨t, δ, ω, a, b, j⟩ := h
  exact ⟨t, δ, ω, by omega, by omega, j⟩
theorem Kv.is (h : Kv u tb S ms) : ∃ t, t ≤ tb ∧ IS S t := by
  obtain ⟨t, δ, ω, a, b, j⟩ := h
  exact ⟨t, b, j.1⟩
theorem Kv.ok (h : Kv u tb S ms) : Ok S := by
  obtain ⟨t, _, i⟩ := h.is
  exact i.1.ok i.2.1
theorem Kv.len (h : Kv u tb S ms) (h24 : u ≤ 24) : ms.length ≤ 324 := by
  obtain ⟨t, δ, ω, a, b, j⟩ := h
  have := j.len
  have := (bM_le (k := 0) a h24).1
  omega
theorem Kv.vm (h : Kv u tb S ms) : ∀ m ∈ ms, Vm S m := by
  obtain ⟨t, δ, ω, a, b, j⟩ := h
  exact fun m hm => (j.2.2.1 m hm).1
theorem Kv.asks {j : Nat} (h : Kv u tb S ms) (hj : j < nc S) (e : asksP S j = .inl (v, S1, new)) : Kv u tb S1 (ms ++ new) := by
  obtain ⟨t, δ, ω, a, b, q⟩ := h
  exact ⟨t, δ, ω, a, b, q.asking hj e⟩
theorem Kv.cancels {j : Nat} (h : Kv u tb S ms) (hj : j < nc S) (e : cancelsP S j = .inl (v, S1, new)) : Kv u tb S1 (ms ++ new) := by
  obtain ⟨t, δ, ω, a, b, q⟩ := h
  exact ⟨t, δ, ω, a, b, q.cancel hj e⟩
theorem Kv.faints {w : Nat} (h : Kv u tb S ms) (e : faintsP S w = .inl (v, S1, new)) : Kv u tb S1 (ms ++ new) := by
  obtain ⟨t, δ, ω, a, b, q⟩ := h
  exact ⟨t, δ, ω, a, b, q.faint e⟩
theorem Kv.wakes {w : Nat} (h : Kv u tb S ms) (hw : w < nk S + 1) (e : wakesP S w = .inl (v, S1, new)) : Kv (u + 1) tb S1 (ms ++ new) := by
  obtain ⟨t, δ, ω, a, b, q⟩ := h
  exact ⟨t, δ, ω + 1, by omega, b, q.wake hw e⟩
theorem Kv.learns {j d o : Nat} (h : Kv u tb S ms) (hj : j < nc S) (hd : d < nk S) (e : learnsP S d o j = .inl (v, S1, new)) : Kv u tb S1 (ms ++ new) := by
  obtain ⟨t, δ, ω, a, b, q⟩ := h
  exact ⟨t, δ, ω, a, b, q.learn hj hd e⟩
theorem Kv.brings {i g : Nat} {a : Int32} (h : Kv u tb S ms) (hg : g < 4) (e : bringsP S i g a = .inl (v, S1, new)) : Kv u tb S1 (ms ++ new) := by
  obtain ⟨t, δ, ω, a, b, q⟩ := h
  exact ⟨t, δ, ω, a, b, q.bring hg e⟩
theorem Kv.hires {d : Int32} (h : Kv u tb S ms) (hd : isN d 1 5) (e : hiresP S d = .inl (v, S1, new)) : Kv u tb S1 (ms ++ new) := by
  obtain ⟨t, δ, ω, a, b, q⟩ := h
  exact ⟨t, δ, ω, a, b, q.hire hd e⟩
theorem Kv.plans (h : Kv u tb S ms) (e : plansP S = .inl (v, S1, new)) : Kv u tb S1 (ms ++ new) := by
  obtain ⟨t, δ, ω, a, b, q⟩ := h
  exact ⟨t, δ, ω, a, b, q.plan e⟩
theorem Kv.gives {j d : Nat} {ing a : Int32} (h : Kv u tb S ms) (hj : j < nc S) (hd : d < nk S) (hi : isN (ing + 1) 1 4) (ha : isN a 1 20) (e : givesP S j d ing a = .inl (v, S1, new)) : Kv (u + 1) tb S1 (ms ++ new) := by
  obtain ⟨t, δ, ω, c, b, q⟩ := h
  exact ⟨t, δ + 1, ω, by omega, b, q.give hj hd hi ha e⟩
theorem Mv.many {T ω δ : Nat} (hb : (12 + ω) * δ < 9000) (m : Nat) : ∀ (k : Nat) (q : St × List Ms), Mv T ω δ (k + m) q → Mv T ω δ k (passP m q) := by
  induction m with
  | zero => intro k q h; exact h
  | succ m ih =>
    intro k q h
    exact ih k (minP q) (Mv.step hb h).2.2
theorem Kv.passes {m : Nat} (h : Kv u tb S ms) (h24 : u ≤ 24) (ht : tb + m < 1000000) : Kv u (tb + m) (passP m (S, ms)).1 (passP m (S, ms)).2 := by
  obtain ⟨t, δ, ω, a, b, q⟩ := h
  have hb := (bM_le (k := 0) a h24).2
  obtain ⟨t1, q1, q2, _⟩ := Mv.many (T := tb + m) (ω := ω) (δ := δ) (by omega) m 0 (S, ms) ⟨t, q, by omega, ht⟩
  exact ⟨t1, δ, ω, a, by omega, q1⟩
end I8
section I8K
variable {γ : GP} {G : AH} {ga : Nat → Nat} {tr : Nat → List Nat} {et : Nat → Nat → Nat} {S : St} {hb : Nat → Prop} {ms : List Ms} {u tb : Nat}
theorem min_nc {T ω δ k : Nat} (hb : (12 + ω) * δ < 9000) {q : St × List Ms} (h : Mv T ω δ (k + 1) q) : nc (minP q).1 = nc q.1 ∧ nk (minP q).1 = nk q.1 := by
  have ha : ∀ (m : Ms) (S : St), nc (arrivesP S m).1 = nc S ∧ nk (arrivesP S m).1 = nk S := by
    intro m S
    have he : ∀ bb, nc (hearsP S m.2.1 m.2.2.1 bb) = nc S ∧ nk (hearsP S m.2.1 m.2.2.1 bb) = nk S := by
      intro bb
      unfold hearsP
      split
      · exact ⟨rfl, rfl⟩
      · split <;> exact ⟨rfl, rfl⟩
    have co : ∀ bb, nc (countsP S m.2.1 m.2.2.1 bb).1 = nc S ∧ nk (countsP S m.2.1 m.2.2.1 bb).1 = nk S := by
      intro bb
      unfold countsP
      split
      · split
        · exact ⟨rfl, rfl⟩
        · split <;> exact ⟨rfl, rfl⟩
      · exact ⟨rfl, rfl⟩
    have iv : nc (invitedP S m.2.1 m.2.2.1).1 = nc S ∧ nk (invitedP S m.2.1 m.2.2.1).1 = nk S := by
      unfold invitedP
      split
      · split <;> exact ⟨rfl, rfl⟩
      · exact ⟨rfl, rfl⟩
    have an : nc (answersP S m.2.1 m.2.2.1).1 = nc S ∧ nk (answersP S m.2.1 m.2.2.1).1 = nk S := by
      unfold answersP
      split <;> exact ⟨rfl, rfl⟩
    unfold arrivesP
    by_cases c : (if toHost m.1 then sg S 3 else sk S m.2.1 1) = 0
    · rw [if_pos c]
      by_cases k0 : m.1 = 0
      · rw [if_pos k0]; exact iv
      · rw [if_neg k0]
        by_cases k1 : m.1 = 1
        · rw [if_pos k1]; exact co true
        · rw [if_neg k1]
          by_cases k2 : m.1 = 2
          · rw [if_pos k2]; exact co false
          · rw [if_neg k2]
            by_cases k3 : m.1 = 3
            · rw [if_pos k3]; exact he true
            · rw [if_neg k3]
              by_cases k4 : m.1 = 4
              · rw [if_pos k4]; exact he false
              · rw [if_neg k4]; exact an
    · rw [if_neg c]; exact ⟨rfl, rfl⟩
  have hl : ∀ (l : List Ms) (q : St × List Ms), nc (arrAll l q).1 = nc q.1 ∧ nk (arrAll l q).1 = nk q.1 := by
    intro l
    induction l with
    | nil => intro q; exact ⟨rfl, rfl⟩
    | cons m l ih =>
      intro q
      have a := ih (arr1 q m)
      have b := ha m q.1
      exact ⟨a.1.trans b.1, a.2.trans b.2⟩
  have hA := hl (q.2.filter (isNow (usg q.1 0 (sg q.1 0 + 1)))) (usg q.1 0 (sg q.1 0 + 1), q.2.filter (fun m => !isNow (usg q.1 0 (sg q.1 0 + 1)) m))
  have hB : nc (minB q).1 = nc (minA q).1 ∧ nk (minB q).1 = nk (minA q).1 := fo_inv (f := patP) (P := fun _ p => nc p.1 = nc (minA q).1 ∧ nk p.1 = nk (minA q).1) (nc (minA q).1) 0 (minA q) (fun x p _ _ hp => by
    have : nk (patP x p).1 = nk p.1 := by
      unfold patP
      split <;> rfl
    exact ⟨pat_nc.trans hp.1, this.trans hp.2⟩) ⟨rfl, rfl⟩
  exact ⟨hB.1.trans hA.1, hB.2.trans hA.2⟩
theorem KS.doPass {m : Nat} (h : KS γ ga tr et hb S ms G) (k : Kv u tb S ms) (h24 : u ≤ 24) (ht : tb + m < 1000000) (hm : m ≤ 60) :
    wp (f_X2_passes γ (ga 1) (Int32.ofNat m) G) (fun r => r.1 = decidedP (passP m (S, ms)).1 - decidedP S ∧ KS γ ga tr et hb (passP m (S, ms)).1 (passP m (S, ms)).2 r.2 ∧ Stq hb G r.2 (13744 + 3744 * u) (70996 + 23040 * u)) := by
  obtain ⟨t, δ, ω, a, b, q⟩ := k
  have hb := (bM_le (k := 0) a h24).2
  have mv : Mv (tb + m) ω δ m (S, ms) := ⟨t, q, by omega, ht⟩
  have b0 : bN ω δ 0 < 9000 := by
    show (11 + ω) * δ < 9000
    have : (11 + ω) * δ ≤ (12 + ω) * δ := Nat.mul_le_mul_right _ (by omega)
    omega
  have r := pass_room mv a h24 hm
  refine wp_mono (KS.passes (J := fun S r m => ∃ t, Jv t (bN ω δ) δ S r m) (M := Mv (tb + m) ω δ) (jc_of b0) (fun k q hq => ?_) (by omega) h mv) (fun r2 hr => ⟨hr.1, hr.2.1, hr.2.2.mono (by omega) (by omega)⟩)
  have := Mv.step (by omega) hq
  exact ⟨by omega, this.2⟩
theorem KS.doClear {j : Nat} (h : KS γ ga tr et hb S ms G) (k : Kv u tb S ms) (h24 : u ≤ 24) (ht : tb + 60 < 1000000) (hj : j < nc S) :
    wp (f_X2_clearIn γ (ga 1) (Int32.ofNat j) G) (fun r => r.1 = clearP j (S, ms) ∧ KS γ ga tr et hb S ms r.2 ∧ Stq (fun a => hS G ≤ a) G r.2 (14700 + 3744 * u) (75300 + 23040 * u)) := by
  have o := k.ok
  have l := k.len h24
  obtain ⟨t, δ, ω, a, b, q⟩ := k
  have hb := (bM_le (k := 0) a h24).2
  have mv : Mv (tb + 60) ω δ 60 (S, ms) := ⟨t, q, by omega, ht⟩
  have b0 : bN ω δ 0 < 9000 := by
    show (11 + ω) * δ < 9000
    have : (11 + ω) * δ ≤ (12 + ω) * δ := Nat.mul_le_mul_right _ (by omega)
    omega
  have r := pass_room mv a h24 (Nat.le_refl 60)
  refine wp_mono (KS.clearIn (J := fun S r m => ∃ t, Jv t (bN ω δ) δ S r m) (M := fun k q => Mv (tb + 60) ω δ k q ∧ j < nc q.1) (j := j) (jc_of b0) (fun k q hq => ?_) (fun k q hq => hq.2) (fun k q hq => ⟨?_, hq.2⟩) o h ⟨mv, hj⟩) (fun r2 hr => ⟨hr.1, hr.2.1, hr.2.2.mono (by omega) (by omega)⟩)
  · have s := Mv.step (by omega) hq.1
    have n := (min_nc (by omega) hq.1).1
    exact ⟨by omega, s.2.1, s.2.2, by rw [n]; exact hq.2⟩
  · obtain ⟨t1, q1, q2, q3⟩ := hq.1
    exact ⟨t1, q1, by omega, q3⟩
theorem KS.doWake {w : Nat} (h : KS γ ga tr et hb S ms G) (k : Kv u tb S ms) (h24 : u ≤ 24) (hw : w < nk S + 1) :
    wp (f_X2_wakes γ (ga 1) (wv w) G) (CmdQ γ ga tr et hb G ms 128 800 (wakesP S w)) := by
  have o := k.ok
  have l := k.len h24
  obtain ⟨t, δ, ω, a, b, q⟩ := k
  refine KS.wakes (PH := fun S1 _ => Jv t (bM ω δ) δ S1 [] ms) (fun S1 j p hj => ⟨?_, p.wkH hj⟩) (Jv.nil (old := []) (rest := []) q out_Sk (out_IS q.1 (Or.inl rfl)) (fun j => by rw [out_sc.1]) (fun j => by rw [out_sc.2.1])) h o hw (by omega)
  exact (p.1.1.ok p.1.2.1).1 0 (by decide)
end I8K
