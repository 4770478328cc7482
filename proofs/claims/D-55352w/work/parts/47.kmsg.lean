section KMS
variable {γ : GP} {G G1 : AH} {own ga : Nat → Nat} {tr : Nat → List Nat} {et : Nat → Nat → Nat} {S : St} {hb : Nat → Prop} {ms : List Ms}
theorem Fc.tag {t : Nat} (h : Fc (fun b => own b = t) G G1) (b : ∀ a, own a = t → hb a) : Fc hb G G1 := h.mono (fun a _ q => b a q)
theorem KS.logH {v1 v2 v3 : Int32} (h : KS γ ga tr et hb S ms G) (hlen : (sl S 0).length ≤ 20) : wp (f_X3_writes γ (ga 4) v1 v2 v3 G) (fun r => KS γ ga tr et hb (usl S 0 (v1, v2, v3)) ms r ∧ Stq hb G r 2 53) := by
  obtain ⟨own, k, b⟩ := h.base
  obtain ⟨hw, hc, h3, h4, _⟩ := h
  have k4 := k.2.2.2.2.1
  have k5 := k.2.2.2.2.2.1
  refine wp_mono (LogR.push k5 hw hc k4.1 (Or.inr rfl) k4.2.2.2.2 (by decide) (by omega)) (fun r hr => ?_)
  obtain ⟨r1, r2, r3, r4, r5, r6, r7⟩ := hr
  have fh := Fc.tag (hb := hb) r2 (fun a q => b a 5 q (by decide) (by decide))
  refine ⟨⟨r3, hc.keep fh h3, h3, (fun a q => h4 a (by omega)), ext own (hK r) (hS G) (hS r) (hS G) 5, ?_⟩, fh, r3, by omega, by omega⟩
  exact k.upd hw hc r3 (T := 5) ⟨by omega, by omega, by omega, by omega, fun j2 hj2 => by omega⟩ r2 (fun a ha => ext_old ha) (fun a ha => ext_out ha (by omega)) (fun a ha q => by rw [ext_9 ha (by omega) q, r7]; decide) (fun a ha q1 q2 => ext_k ha q1 q2) (Or.inl h4) rfl rfl
    (fun q => by omega) (fun q => ⟨rfl, rfl⟩) (fun q => by omega) (fun q => rfl) (fun q => by rw [sl_usl, if_pos rfl]; exact r1) (fun q => absurd rfl q) (fun q => by omega) (fun q => rfl)
    (fun i2 hi2 q => by omega) (fun i2 hi2 q => ⟨rfl, rfl⟩) (fun i2 hi2 q => by omega) (fun i2 hi2 q => by rw [sl_usl, if_neg (by omega)]) (fun i2 hi2 b2 hb2 q => by omega) (fun i2 hi2 b2 hb2 q y2 hy2 => rfl)
    (fun j2 hj2 q => by omega) (fun j2 hj2 q => ⟨rfl, rfl, rfl, rfl⟩) (fun j2 hj2 d2 hd2 => rfl) (fun j2 hj2 d2 hd2 _ q => by omega) (fun j2 hj2 d2 hd2 q => ⟨rfl, rfl, rfl⟩)
theorem KS.logC {i : Nat} {v1 v2 v3 : Int32} (h : KS γ ga tr et hb S ms G) (hi : i < nk S) (hlen : (sl S (i + 1)).length ≤ 20) : wp (f_X3_writes γ (ga (10 + i)) v1 v2 v3 G) (fun r => KS γ ga tr et hb (usl S (i + 1) (v1, v2, v3)) ms r ∧ Stq hb G r 2 53) := by
  obtain ⟨own, k, b⟩ := h.base
  have hn := h.bnd
  obtain ⟨hw, hc, h3, h4, _⟩ := h
  have k4 := k.2.2.2.2.2.2.2.1 i hi
  have k5 := k.2.2.2.2.2.2.2.2.1 i hi
  refine wp_mono (LogR.push k5 hw hc k4.1 (Or.inl rfl) k4.2.2.2.2.2.1 ⟨by omega, by omega⟩ (by omega)) (fun r hr => ?_)
  obtain ⟨r1, r2, r3, r4, r5, r6, r7⟩ := hr
  have fh := Fc.tag (hb := hb) r2 (fun a q => b a (20 + i) q (by omega) (by omega))
  refine ⟨⟨r3, hc.keep fh h3, h3, (fun a q => h4 a (by omega)), ext own (hK r) (hS G) (hS r) (hS G) (20 + i), ?_⟩, fh, r3, by omega, by omega⟩
  exact k.upd hw hc r3 (T := 20 + i) ⟨by omega, by omega, by omega, by omega, fun j2 hj2 => by omega⟩ r2 (fun a ha => ext_old ha) (fun a ha => ext_out ha (by omega)) (fun a ha q => by rw [ext_9 ha (by omega) q, r7]; decide) (fun a ha q1 q2 => ext_k ha q1 q2) (Or.inl h4) rfl rfl
    (fun q => by omega) (fun q => ⟨rfl, rfl⟩) (fun q => by omega) (fun q => rfl) (fun q => by omega) (fun q => by rw [sl_usl, if_neg (by omega)]) (fun q => by omega) (fun q => rfl)
    (fun i2 hi2 q => by omega) (fun i2 hi2 q => ⟨rfl, rfl⟩) (fun i2 hi2 q => by
      have e : i2 = i := by omega
      subst e
      rw [sl_usl, if_pos rfl]; exact r1) (fun i2 hi2 q => by rw [sl_usl, if_neg (by omega)]) (fun i2 hi2 b2 hb2 q => by omega) (fun i2 hi2 b2 hb2 q y2 hy2 => rfl)
    (fun j2 hj2 q => by omega) (fun j2 hj2 q => ⟨rfl, rfl, rfl, rfl⟩) (fun j2 hj2 d2 hd2 => rfl) (fun j2 hj2 d2 hd2 _ q => by omega) (fun j2 hj2 d2 hd2 q => ⟨rfl, rfl, rfl⟩)
/-- kept: only cells that are nobody's were written -/
theorem Kt.keepAll {P : Nat → Prop} (k : Kt γ G own ga tr et hb S ms) (hw : Wf G) (hc : Cn γ G) (hw1 : Wf G1) (hF : Fc P G G1) (hP : ∀ a, P a → γ.2 < a ∧ own a = 0) : Kt γ G1 own ga tr et hb S ms := by
  obtain ⟨⟨b1, b2, b3, b4, b5⟩, k1, k2, k3, k4, k5, k6, kc, kl, ka, ko, kt, kd⟩ := k
  have n : ∀ t, t ≠ 0 → ∀ a, own a = t → ¬ P a := fun t ht a q p => ht (by rw [← q]; exact (hP a p).2)
  have ho : ∀ a, a < hS G → own a ≠ 0 → own a = own a := fun _ _ _ => rfl
  exact ⟨⟨b1, fun a ha => b2 a (Nat.le_trans hF.le ha), b3, b4, b5.1, fun a q => by rw [hF.kind (hw.2 a (by have := b5.2.1 a q; omega)).2]; exact b5.2.1 a q, fun a q1 q2 => by
    rcases Nat.lt_or_ge a (hS G) with l | l
    · rw [hF.kind l] at q1 q2; exact b5.2.2 a q1 q2
    · exact Or.inl (b2 a l)⟩, k1.keep hw hF ho (n 1 (by decide)) rfl rfl, k2.keep (by decide) hw hF ho (n 2 (by decide)), k3.keep (by decide) hw hF ho (n 3 (by decide)), k4.keep hw hF ho (n 4 (by decide)) rfl, k5.keep (by decide) hw hF ho (n 5 (by decide)) (n 9 (by decide)), k6.keep (by decide) hw hF ho (n 6 (by decide)) (n 9 (by decide)),
    fun i hi => (kc i hi).keep hw hF ho (n _ (by omega)) rfl rfl, fun i hi => (kl i hi).keep (by omega) hw hF ho (n _ (by omega)) (n 9 (by decide)), fun i hi b hbb => (ka i hi b hbb).keep hw hF ho (n _ (by omega)) (fun _ _ => rfl), fun j hj => (ko j hj).keep hw hF ho (n _ (by omega)) rfl rfl rfl rfl, fun j hj => (kt j hj).keep hw hw1 hc hF (fun a p => (hP a p).1) ho (n _ (by omega)) (fun _ _ => rfl), fun j hj d hd hx => (kd j hj d hd hx).keep hw hF ho (n _ (by omega)) rfl rfl rfl rfl⟩
theorem KS.keepAll {P : Nat → Prop} (h : KS γ ga tr et hb S ms G) (hw1 : Wf G1) (hF : Fc P G G1) (hP : ∀ a, P a → hS G ≤ a) : KS γ ga tr et hb S ms G1 := by
  obtain ⟨hw, hc, h3, h4, own, k⟩ := h
  have hl := hc.lt
  exact ⟨hw1, hc.keep hF (fun a q => by have := hP a q; omega), h3, (fun a q => h4 a (Nat.le_trans hF.le q)), own, k.keepAll hw hc hw1 hF (fun a p => ⟨by have := hP a p; omega, k.1.2.1 a (hP a p)⟩)⟩
/-- what a message's object says -/
def MsgF (G : AH) (a : Nat) (m : Ms) : Prop :=
  (m.1 = 0 ∧ hK G a = 29 ∧ hI G 113 a = Int32.ofNat m.2.1 ∧ hI G 114 a = Int32.ofNat m.2.2.1 ∧ hI G 115 a = m.2.2.2) ∨
  ((m.1 = 1 ∨ m.1 = 2) ∧ hK G a = 32 ∧ hI G 123 a = Int32.ofNat m.2.1 ∧ hI G 124 a = Int32.ofNat m.2.2.1 ∧ hI G 125 a = m.2.2.2 ∧ hI G 126 a = if m.1 = 1 then 1 else 0) ∨
  ((m.1 = 3 ∨ m.1 = 4) ∧ hK G a = 30 ∧ hI G 116 a = Int32.ofNat m.2.1 ∧ hI G 117 a = Int32.ofNat m.2.2.1 ∧ hI G 118 a = m.2.2.2 ∧ hI G 119 a = if m.1 = 3 then 1 else 0) ∨
  (m.1 = 5 ∧ hK G a = 31 ∧ hI G 120 a = Int32.ofNat m.2.1 ∧ hI G 121 a = Int32.ofNat m.2.2.1 ∧ hI G 122 a = m.2.2.2)
theorem KS.addMsg {q : Nat} {m : Ms} (h : KS γ ga tr et hb S ms G) (hF : Fr (fun _ => False) G G1) (hw1 : Wf G1) (hq : hS G ≤ q) (hs : hS G1 = hS G + 1) (hm : MsgF G1 q m) (hlen : ms.length < 10000) :
    wp (f_J4_add γ (ga 6) q G1) (fun r => KS γ ga tr et hb S (ms ++ [m]) r.2 ∧ Fc hb G r.2 ∧ Wf r.2 ∧ hS r.2 = hS G + 2 ∧ hM r.2 = hM G1 + 3) := by
  obtain ⟨own, k, b⟩ := h.base
  obtain ⟨hw, hc, h3, h4, _⟩ := h
  have hlt := hc.lt
  have fc0 : Fc (fun _ => False) G G1 := hF.toC hw (fun _ _ q => q.elim)
  have k6 := k.2.2.2.2.2.2.1
  obtain ⟨ns, L, a1, a2, a3, a4, a5⟩ := k6
  have a1' : LL γ G1 (ga 6) ns L := a1.keepC hw fc0 (fun q => q) (fun _ _ q => q)
  have kq : hK G1 q ≠ 0 := by
    rcases hm with h | h | h | h
    · rw [h.2.1]; decide
    · rw [h.2.1]; decide
    · rw [h.2.1]; decide
    · rw [h.2.1]; decide
  have lq := (hw1.2 q kq).2
  have kns : ∀ a ∈ ns, a < hS G := fun a ha => by
    obtain ⟨i, hi, e⟩ := List.getElem_of_mem ha
    have k := (a1.2.2.2.2.2.2.2 i hi).1
    rw [nd_get hi, e] at k
    exact hw.k k (by decide)
  have l6 := hw.k a1.1 (by decide)
  unfold f_J4_add
  refine wp_bV (wp_ifc a1'.1 (wp_mono (LL.push (v := q) hw1 (by omega) a1') (fun r hr => ?_)))
  obtain ⟨r1, r2, r3, r4, r5⟩ := hr
  have lp : ∀ a, LLp (ga 6) ns a → own a = 6 := fun a q => by
    rcases q with e | e
    · rw [e]; exact a2
    · exact a3 a e
  have fr2 : Fr (LLp (ga 6) ns) G r := (hF.mono (fun _ _ q => q.elim)).trans r2 (fun a q => Or.inl q)
  have fc2 : Fc (fun b => own b = 6) G r := (fr2.toC hw (fun a _ q => by
    rcases q with e | e
    · rw [e, a1.1]; decide
    · obtain ⟨i, hi, e2⟩ := List.getElem_of_mem e
      have k := (a1.2.2.2.2.2.2.2 i hi).1
      rw [nd_get hi, e2] at k
      rw [k]; decide)).mono (fun a _ q => lp a q)
  have fh := Fc.tag (hb := hb) fc2 (fun a q => b a 6 q (by decide) (by decide))
  have hl2 : hS G ≤ hS r := by omega
  have kq9 : 28 ≤ hK r q ∧ hK r q ≤ 32 := by
    rw [(r2.2.2.1 q lq).1]
    rcases hm with h | h | h | h
    · rw [h.2.1]; decide
    · rw [h.2.1]; decide
    · rw [h.2.1]; decide
    · rw [h.2.1]; decide
  have oq : ext own (hK r) (hS G) (hS r) q 6 q = 9 := ext_q hq (by omega)
  refine wp_some ⟨⟨r3, hc.keep fh h3, h3, (fun a q => h4 a (by have q1 : hS r ≤ a := q; omega)), ext own (hK r) (hS G) (hS r) q 6, ?_⟩, fh, r3, by show hS r = _; omega, r5⟩
  refine k.upd hw hc r3 (T := 6) ⟨by omega, by omega, by omega, by omega, fun j2 hj2 => by omega⟩ fc2 (fun a ha => ext_old ha) (fun a ha => ext_out ha hl2) (fun a ha e => by rw [ext_9 ha (by omega) e]; exact kq9) (fun a ha q1 q2 => ext_k ha q1 q2) (Or.inl h4) rfl rfl
    (fun q => by omega) (fun q => ⟨rfl, rfl⟩) (fun q => by omega) (fun q => rfl) (fun q => by omega) (fun q => rfl) (fun _ => ?_) (fun q => absurd rfl q)
    (fun i2 hi2 q => by omega) (fun i2 hi2 q => ⟨rfl, rfl⟩) (fun i2 hi2 q => by omega) (fun i2 hi2 q => rfl) (fun i2 hi2 b2 hb2 q => by omega) (fun i2 hi2 b2 hb2 q y2 hy2 => rfl)
    (fun j2 hj2 q => by omega) (fun j2 hj2 q => ⟨rfl, rfl, rfl, rfl⟩) (fun j2 hj2 d2 hd2 => rfl) (fun j2 hj2 d2 hd2 _ q => by omega) (fun j2 hj2 d2 hd2 q => ⟨rfl, rfl, rfl⟩)
  refine ⟨ns ++ [hS G1], L ++ [q], r1, by rw [ext_old l6]; exact a2, fun a ha => ?_, by rw [List.length_append, List.length_append, a4]; rfl, fun i hi => ?_⟩
  · rcases List.mem_append.mp ha with e | e
    · rw [ext_old (kns a e)]; exact a3 a e
    · rw [List.mem_singleton.mp e]
      have kn := (r1.2.2.2.2.2.2.2 ns.length (by rw [List.length_append]; exact Nat.lt_succ_self _)).1
      rw [nd_last] at kn
      exact ext_new (by omega) (by omega) (by omega) (by rw [kn]; decide)
  · rw [List.length_append, List.length_singleton] at hi
    rw [nd_app2 (by omega), getD_app2 hi, a4]
    by_cases ci : i < ms.length
    · rw [if_pos ci, if_pos ci]
      exact (a5 i ci).keep hw fc2 (fun c hc2 _ => ext_old hc2) (fun c e9 et => by rw [e9] at et; exact absurd et (by decide))
    · rw [if_neg ci, if_neg ci]
      have sq := r2.2.2.2 q lq (fun w => by
        rcases w with e | e
        · omega
        · have := kns q e; omega)
      have kk := (r2.2.2.1 q lq).1
      refine ⟨oq, ?_⟩
      unfold MsgF at hm
      rw [kk, sq.1, sq.1, sq.1, sq.1, sq.1, sq.1, sq.1, sq.1, sq.1, sq.1, sq.1, sq.1, sq.1, sq.1]
      exact hm
end KMS
section KGD
variable {γ : GP} {G G1 : AH} {ga : Nat → Nat} {tr : Nat → List Nat} {et : Nat → Nat → Nat} {S : St} {hb : Nat → Prop} {ms : List Ms}
/-- a cell that is nobody's may be set apart -/
theorem KS.guard {P : Nat → Prop} {it : Nat} (h : KS γ ga tr et hb S ms G) (hw1 : Wf G1) (hF : Fc P G G1) (hP : ∀ a, P a → hS G ≤ a) (hit : hS G ≤ it) (hit1 : it < hS G1) : KS γ ga tr et (fun a => hb a ∧ a ≠ it) S ms G1 := by
  obtain ⟨hw, hc, h3, h4, own, k⟩ := h
  have hl := hc.lt
  have k1 := k.keepAll hw hc hw1 hF (fun a p => ⟨by have := hP a p; omega, k.1.2.1 a (hP a p)⟩)
  refine ⟨hw1, hc.keep hF (fun a q => by have := hP a q; omega), fun a q => h3 a q.1, fun a q => ⟨h4 a (Nat.le_trans hF.le q), by omega⟩, own, ⟨k1.1.1, k1.1.2.1, fun a q q9 => ⟨k1.1.2.2.1 a q q9, fun e => ?_⟩, k1.1.2.2.2⟩, k1.2⟩
  rw [e] at q
  exact q (k.1.2.1 it hit)
theorem KS.mono {B : Nat → Prop} (h : KS γ ga tr et hb S ms G) (hB : ∀ a, hb a → B a) (hl : ∀ a, B a → γ.2 < a) : KS γ ga tr et B S ms G := by
  obtain ⟨hw, hc, h3, h4, own, k⟩ := h
  exact ⟨hw, hc, hl, fun a q => hB a (h4 a q), own, ⟨k.1.1, k.1.2.1, fun a q q9 => hB a (k.1.2.2.1 a q q9), k.1.2.2.2⟩, k.2⟩
/-- so may a frozen one -/
theorem KS.guard9 {a : Nat} (h : KS γ ga tr et hb S ms G) (h1 : 28 ≤ hK G a) (h2 : hK G a ≤ 32) : KS γ ga tr et (fun b => hb b ∧ b ≠ a) S ms G := by
  obtain ⟨hw, hc, h3, h4, own, k⟩ := h
  have l := (hw.2 a (by omega)).2
  refine ⟨hw, hc, fun a q => h3 a q.1, fun b q => ⟨h4 b q, by omega⟩, own, ⟨k.1.1, k.1.2.1, fun b q q9 => ⟨k.1.2.2.1 b q q9, fun e => ?_⟩, k.1.2.2.2⟩, k.2⟩
  rw [e] at q q9
  rcases k.1.2.2.2.2.2.2 a h1 h2 with w | w
  · exact q w
  · exact q9 w
/-- .. and be written -/
theorem KS.keepIt {it : Nat} (h : KS γ ga tr et hb S ms G) (hit : ¬ hb it) (hk : hK G it < 28 ∧ hK G it ≠ 15 ∧ hK G it ≠ 21 ∧ hK G it ≠ 26) (hlo : γ.2 < it) (hw1 : Wf G1) (hF : Fr (fun a => a = it) G G1) : KS γ ga tr et hb S ms G1 := by
  obtain ⟨hw, hc, h3, h4, own, k⟩ := h
  have fc := hF.toC hw (fun a _ e => by rw [e]; exact hk.2)
  have o0 : own it = 0 := by
    by_cases c : own it = 0
    · exact c
    · by_cases c9 : own it = 9
      · have := k.1.2.2.2.2.2.1 it c9; omega
      · exact absurd (k.1.2.2.1 it c c9) hit
  exact ⟨hw1, hc.keep fc (fun a e => by rw [e]; exact hlo), h3, fun a q => h4 a (Nat.le_trans hF.1 q), own, k.keepAll hw hc hw1 fc (fun a e => ⟨by rw [e]; exact hlo, by rw [e]; exact o0⟩)⟩
end KGD
