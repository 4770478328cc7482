/-! a small heap C and its image in G: what the tree's methods do to C, they do to G -/
def tfI (c : Nat) : List Nat := if c = 12 then [61] else if c = 15 then [71, 72] else if c = 23 then [102] else []
def tfR (c : Nat) : List Nat := if c = 15 then [69, 70] else if c = 23 then [97, 98, 99, 100, 101] else []
def Dm (kd : Nat → Nat) (a : Nat) : Prop := a = 0 ∨ kd a ≠ 0
def cγ : GP := (fun _ => 0, 6)
def Rl (γ : GP) (φ kd : Nat → Nat) (s : Nat × Nat) (m : Nat) (P : Nat → Prop) (G0 C G : AH) : Prop :=
  hK C = kd ∧ φ 0 = 0 ∧ (∀ a b, Dm kd a → Dm kd b → φ a = φ b → a = b) ∧ (∀ a, kd a ≠ 0 → hK G (φ a) = kd a) ∧
  ((∀ a f, f ∈ tfI (kd a) → hI G f (φ a) = hI C f a) ∧ (∀ a f, f ∈ tfR (kd a) → Dm kd (hR C f a) ∧ hR G f (φ a) = φ (hR C f a))) ∧
  (∀ a, 6 < a → kd a ≠ 0 → γ.2 < φ a) ∧ (∀ a, 6 < a → kd a = 15 ∨ kd a = 23 → P (φ a)) ∧ (Fr P G0 G ∧ ∀ a f, a < hS G0 → f ∉ [69, 70, 97, 98, 99, 100, 101] → hR G f a = hR G0 f a) ∧ Wf G ∧ hS G = s.1 ∧ hM G = m ∧ hS C = s.2 ∧ 6 < s.2 ∧ ∀ a, s.2 ≤ a → kd a = 0
def SS {α : Type} (O : α → α → Prop) (X Y : Option α) : Prop := ∀ r, X = some r → ∃ r', Y = some r' ∧ O r r'
def ON (γ : GP) (φ kd : Nat → Nat) (s : Nat × Nat) (m : Nat) (P : Nat → Prop) (G0 : AH) : Nat × AH → Nat × AH → Prop := fun r r' => Rl γ φ kd s m P G0 r.2 r'.2 ∧ Dm kd r.1 ∧ r'.1 = φ r.1
def OI (γ : GP) (φ kd : Nat → Nat) (s : Nat × Nat) (m : Nat) (P : Nat → Prop) (G0 : AH) : Int32 × AH → Int32 × AH → Prop := fun r r' => Rl γ φ kd s m P G0 r.2 r'.2 ∧ r'.1 = r.1
def OV (γ : GP) (φ kd : Nat → Nat) (s : Nat × Nat) (m : Nat) (P : Nat → Prop) (G0 : AH) : AH → AH → Prop := fun r r' => Rl γ φ kd s m P G0 r r'
section SIM
variable {γ : GP} {φ kd : Nat → Nat} {s : Nat × Nat} {m : Nat} {P : Nat → Prop} {G0 C G : AH} {α : Type} {O : α → α → Prop}
theorem tfI_of {f c : Nat} (hf : f ∈ [61, 71, 72, 102]) (h : f ∈ cFl c) : f ∈ tfI c := by
  have H : ∀ c, c < 42 → ∀ f ∈ [61, 71, 72, 102], f ∈ cFl c → f ∈ tfI c := by decide +kernel
  rcases Nat.lt_or_ge c 42 with q | q
  · exact H c q f hf h
  · have h1 : cFls[c]? = none := List.getElem?_eq_none_iff.mpr (Nat.le_trans (by decide) q)
    unfold cFl at h
    rw [List.getD_eq_getElem?_getD, h1] at h
    cases h
theorem tfR_of {f c : Nat} (hf : f ∈ [69, 70, 97, 98, 99, 100, 101]) (h : f ∈ cFl c) : f ∈ tfR c := by
  have H : ∀ c, c < 42 → ∀ f ∈ [69, 70, 97, 98, 99, 100, 101], f ∈ cFl c → f ∈ tfR c := by decide +kernel
  rcases Nat.lt_or_ge c 42 with q | q
  · exact H c q f hf h
  · have h1 : cFls[c]? = none := List.getElem?_eq_none_iff.mpr (Nat.le_trans (by decide) q)
    unfold cFl at h
    rw [List.getD_eq_getElem?_getD, h1] at h
    cases h
theorem cfl_of {f a : Nat} (h : f ∈ cFl (kd a)) : kd a ≠ 0 := by
  intro e
  rw [e] at h
  exact absurd h List.not_mem_nil
theorem SS.r_none {Y : Option α} : SS O Option.none Y := fun r h => by cases h
theorem SS.r_some {r r' : α} (h : O r r') : SS O (Option.some r) (Option.some r') := fun q e => by cases e; exact ⟨r', rfl, h⟩
theorem SS.ifc {P1 Q1 : Prop} [Decidable P1] [Decidable Q1] {X Y : Option α} (h1 : P1 → Q1) (h : P1 → SS O X Y) : SS O (if P1 then X else Option.none) (if Q1 then Y else Option.none) := by
  by_cases hp : P1
  · rw [if_pos hp, if_pos (h1 hp)]; exact h hp
  · rw [if_neg hp]; exact SS.r_none
theorem SS.iteP {P1 : Prop} [Decidable P1] {X Y X' Y' : Option α} (h1 : P1 → SS O X X') (h2 : ¬ P1 → SS O Y Y') : SS O (if P1 then X else Y) (if P1 then X' else Y') := by
  by_cases hp : P1
  · rw [if_pos hp, if_pos hp]; exact h1 hp
  · rw [if_neg hp, if_neg hp]; exact h2 hp
theorem SS.iteA {a b a' b' : Nat} {X Y X' Y' : Option α} (h : Rl γ φ kd s m P G0 C G) (da : Dm kd a) (db : Dm kd b) (ea : a' = φ a) (eb : b' = φ b) (h1 : a = b → SS O X X') (h2 : a ≠ b → SS O Y Y') : SS O (if a = b then X else Y) (if a' = b' then X' else Y') := by
  subst ea eb
  by_cases hp : a = b
  · rw [if_pos hp, if_pos (by rw [hp])]; exact h1 hp
  · rw [if_neg hp, if_neg (fun e => hp (h.2.2.1 a b da db e))]; exact h2 hp
theorem SS.iteN {a a' : Nat} {X X' : Option α} (h : Rl γ φ kd s m P G0 C G) (da : Dm kd a) (ea : a' = φ a) (h1 : a ≠ 0 → SS O X X') : SS O (if a ≠ 0 then X else Option.none) (if a' ≠ 0 then X' else Option.none) := by
  subst ea
  refine SS.ifc (fun hp e => hp (h.2.2.1 a 0 da (Or.inl rfl) (by rw [e, h.2.1]))) h1
theorem SS.iteK {a a' n : Nat} {X X' : Option α} (h : Rl γ φ kd s m P G0 C G) (ea : a' = φ a) (hn : n ≠ 0) (h1 : kd a = n → SS O X X') : SS O (if hK C a = n then X else Option.none) (if hK G a' = n then X' else Option.none) := by
  subst ea
  rw [h.1]
  exact SS.ifc (fun hp => by rw [h.2.2.2.1 a (by omega)]; exact hp) h1
theorem SS.r_gR {a a' f : Nat} {K K' : Nat → Option α} (h : Rl γ φ kd s m P G0 C G) (ea : a' = φ a) (hf : f ∈ [69, 70, 97, 98, 99, 100, 101]) (k : Dm kd (hR C f a) → SS O (K (hR C f a)) (K' (φ (hR C f a)))) : SS O (gR C a f K) (gR G a' f K') := by
  subst ea
  refine SS.ifc (fun hp => ?_) (fun hp => ?_)
  · unfold okF at hp ⊢
    rw [h.1] at hp
    rw [h.2.2.2.1 a (cfl_of hp)]; exact hp
  · unfold okF at hp
    rw [h.1] at hp
    have q := h.2.2.2.2.1.2 a f (tfR_of hf hp)
    rw [q.2]
    exact k q.1
theorem SS.r_gI {a a' f : Nat} {K K' : Int32 → Option α} (h : Rl γ φ kd s m P G0 C G) (ea : a' = φ a) (hf : f ∈ [61, 71, 72, 102]) (k : SS O (K (hI C f a)) (K' (hI C f a))) : SS O (gI C a f K) (gI G a' f K') := by
  subst ea
  refine SS.ifc (fun hp => ?_) (fun hp => ?_)
  · unfold okF at hp ⊢
    rw [h.1] at hp
    rw [h.2.2.2.1 a (cfl_of hp)]; exact hp
  · unfold okF at hp
    rw [h.1] at hp
    rw [h.2.2.2.2.1.1 a f (tfI_of hf hp)]
    exact k
theorem Rl.ow {a f : Nat} (h : Rl γ φ kd s m P G0 C G) (hp : okW cγ C a f) : okW γ G (φ a) f := by
  unfold okW at hp ⊢
  rw [h.1] at hp
  have q := cfl_of hp.1
  rw [h.2.2.2.1 a q]
  exact ⟨hp.1, hp.2.1, h.2.2.2.2.2.1 a hp.2.2 q⟩
theorem tfR_c {f c : Nat} (h : f ∈ tfR c) : c = 15 ∨ c = 23 := by
  unfold tfR at h
  by_cases e : c = 15
  · exact Or.inl e
  · rw [if_neg e] at h
    by_cases e2 : c = 23
    · exact Or.inr e2
    · rw [if_neg e2] at h; cases h
theorem tfI_c {f c : Nat} (h : f ∈ tfI c) (h6 : f ≠ 61) : c = 15 ∨ c = 23 := by
  unfold tfI at h
  by_cases e0 : c = 12
  · rw [if_pos e0] at h
    exact absurd (List.mem_singleton.mp h) h6
  · rw [if_neg e0] at h
    by_cases e : c = 15
    · exact Or.inl e
    · rw [if_neg e] at h
      by_cases e2 : c = 23
      · exact Or.inr e2
      · rw [if_neg e2] at h; cases h
theorem tfI_0 {f : Nat} (h : f ∈ tfI 0) : False := absurd (show f ∈ [] from h) List.not_mem_nil
theorem tfR_0 {f : Nat} (h : f ∈ tfR 0) : False := absurd (show f ∈ [] from h) List.not_mem_nil
theorem Rl.wR {a f v : Nat} (h : Rl γ φ kd s m P G0 C G) (hv : Dm kd v) (hf : f ∈ [69, 70, 97, 98, 99, 100, 101]) (hp : okW cγ C a f) : Rl γ φ kd s m P G0 (sR C f a v) (sR G f (φ a) (φ v)) := by
  obtain ⟨h1, h2, h3, h4, h5, h6, h7, h8, h9, h10, h11⟩ := h
  unfold okW at hp
  rw [h1] at hp
  have q0 := cfl_of hp.1
  have hc := tfR_c (tfR_of hf hp.1)
  refine ⟨h1, h2, h3, h4, ⟨h5.1, fun b g hg => ?_⟩, h6, h7, ⟨h8.1.sR (Or.inl (h7 a hp.2.2 hc)), fun b g hb hg => by rw [hR_sR, if_neg (fun e => hg (by rw [e.1]; exact hf))]; exact h8.2 b g hb hg⟩, h9.sR, h10, h11⟩
  have q := h5.2 b g hg
  have qb : kd b ≠ 0 := fun e => tfR_0 (by rw [e] at hg; exact hg)
  refine ⟨?_, ?_⟩
  · rw [hR_sR]
    split
    · exact hv
    · exact q.1
  · rw [hR_sR, hR_sR]
    by_cases e : g = f ∧ b = a
    · rw [if_pos e, if_pos ⟨e.1, by rw [e.2]⟩]
    · rw [if_neg e, if_neg (fun k => e ⟨k.1, h3 b a (Or.inr qb) (Or.inr q0) k.2⟩)]
      exact q.2
theorem Rl.wI {a f : Nat} {v : Int32} (h : Rl γ φ kd s m P G0 C G) (hf : f ∈ [71, 72, 102]) (hp : okW cγ C a f) : Rl γ φ kd s m P G0 (sI C f a v) (sI G f (φ a) v) := by
  obtain ⟨h1, h2, h3, h4, h5, h6, h7, h8, h9, h10, h11⟩ := h
  unfold okW at hp
  rw [h1] at hp
  have q0 := cfl_of hp.1
  have hc := tfI_c (tfI_of (List.mem_cons_of_mem _ hf) hp.1) (fun e => by rw [e] at hf; exact absurd hf (by decide))
  refine ⟨h1, h2, h3, h4, ⟨fun b g hg => ?_, h5.2⟩, h6, h7, ⟨h8.1.sI (Or.inl (h7 a hp.2.2 hc)), h8.2⟩, h9.sI, h10, h11⟩
  have q := h5.1 b g hg
  have qb : kd b ≠ 0 := fun e => tfI_0 (by rw [e] at hg; exact hg)
  rw [hI_sI, hI_sI]
  by_cases e : g = f ∧ b = a
  · rw [if_pos e, if_pos ⟨e.1, by rw [e.2]⟩]
  · rw [if_neg e, if_neg (fun k => e ⟨k.1, h3 b a (Or.inr qb) (Or.inr q0) k.2⟩)]
    exact q
theorem SS.r_pR {a a' f v v' : Nat} {K K' : AH → Option α} (h : Rl γ φ kd s m P G0 C G) (ea : a' = φ a) (ev : v' = φ v) (hv : Dm kd v) (hf : f ∈ [69, 70, 97, 98, 99, 100, 101]) (k : Rl γ φ kd s m P G0 (sR C f a v) (sR G f (φ a) (φ v)) → SS O (K (sR C f a v)) (K' (sR G f (φ a) (φ v)))) : SS O (pR cγ C a f v K) (pR γ G a' f v' K') := by
  subst ea ev
  exact SS.ifc (fun hp => h.ow hp) (fun hp => k (h.wR hv hf hp))
theorem SS.r_pI {a a' f : Nat} {v : Int32} {K K' : AH → Option α} (h : Rl γ φ kd s m P G0 C G) (ea : a' = φ a) (hf : f ∈ [71, 72, 102]) (k : Rl γ φ kd s m P G0 (sI C f a v) (sI G f (φ a) v) → SS O (K (sI C f a v)) (K' (sI G f (φ a) v))) : SS O (pI cγ C a f v K) (pI γ G a' f v K') := by
  subst ea
  exact SS.ifc (fun hp => ⟨h.ow hp.1, hp.2⟩) (fun hp => k (h.wI hf hp.1))
theorem SS.r_gC {a a' : Nat} {L : List Nat} {X X' : Option α} (h : Rl γ φ kd s m P G0 C G) (ea : a' = φ a) (hL : 0 ∉ L) (k : SS O X X') : SS O (gC C L a X) (gC G L a' X') := by
  subst ea
  refine SS.ifc (fun hp => ?_) (fun _ => k)
  rcases hp with hp | hp
  · exact Or.inl (by rw [hp, h.2.1])
  · by_cases e : kd a = 0
    · exfalso
      unfold okC at hp
      rw [h.1, e] at hp
      exact hL hp
    · refine Or.inr ?_
      unfold okC at hp ⊢
      rw [h.1] at hp
      rw [h.2.2.2.1 a e]; exact hp
theorem SS.r_bR {X Y : Option (Nat × AH)} {K K' : Nat → AH → Option α} (h : SS (ON γ φ kd s m P G0) X Y) (k : ∀ b C1 G1, Rl γ φ kd s m P G0 C1 G1 → Dm kd b → SS O (K b C1) (K' (φ b) G1)) : SS O (bR X K) (bR Y K') := by
  intro r e
  cases X with
  | none => cases e
  | some x =>
    obtain ⟨y, ey, o1, o2, o3⟩ := h x rfl
    rw [ey]
    show ∃ r', K' y.1 y.2 = Option.some r' ∧ O r r'
    rw [o3]
    exact k x.1 x.2 y.2 o1 o2 r e
theorem SS.r_bI {X Y : Option (Int32 × AH)} {K K' : Int32 → AH → Option α} (h : SS (OI γ φ kd s m P G0) X Y) (k : ∀ b C1 G1, Rl γ φ kd s m P G0 C1 G1 → SS O (K b C1) (K' b G1)) : SS O (bI X K) (bI Y K') := by
  intro r e
  cases X with
  | none => cases e
  | some x =>
    obtain ⟨y, ey, o1, o3⟩ := h x rfl
    rw [ey]
    show ∃ r', K' y.1 y.2 = Option.some r' ∧ O r r'
    rw [o3]
    exact k x.1 x.2 y.2 o1 r e
theorem SS.r_bV {X Y : Option AH} {K K' : AH → Option α} (h : SS (OV γ φ kd s m P G0) X Y) (k : ∀ C1 G1, Rl γ φ kd s m P G0 C1 G1 → SS O (K C1) (K' G1)) : SS O (bV X K) (bV Y K') := by
  intro r e
  cases X with
  | none => cases e
  | some x =>
    obtain ⟨y, ey, o1⟩ := h x rfl
    rw [ey]
    exact k x y o1 r e
theorem SS.oN {a a' : Nat} (h : Rl γ φ kd s m P G0 C G) (ea : a' = φ a) (da : Dm kd a) : SS (ON γ φ kd s m P G0) (Option.some (a, C)) (Option.some (a', G)) := SS.r_some ⟨h, da, ea⟩
theorem SS.oI {v : Int32} (h : Rl γ φ kd s m P G0 C G) : SS (OI γ φ kd s m P G0) (Option.some (v, C)) (Option.some (v, G)) := SS.r_some ⟨h, rfl⟩
theorem SS.oV (h : Rl γ φ kd s m P G0 C G) : SS (OV γ φ kd s m P G0) (Option.some C) (Option.some G) := SS.r_some h
theorem SS.rt {ty : FieldType} {v : Int32} (h : Rl γ φ kd s m P G0 C G) : SS (OI γ φ kd s m P G0) (rtN ty v C) (rtN ty v G) := SS.iteP (fun _ => SS.oI h) (fun _ => SS.r_none)
theorem SS.mono {O1 : α → α → Prop} {X Y : Option α} (h : SS O X Y) (k : ∀ r r', O r r' → O1 r r') : SS O1 X Y := fun r e => by
  obtain ⟨r', e', o⟩ := h r e
  exact ⟨r', e', k r r' o⟩
theorem Rl.ext (h : Rl γ φ kd s m P G0 C G) (hb : γ.2 < s.1) : Rl γ (u1 φ s.2 s.1) (u1 kd s.2 23) (s.1 + 1, s.2 + 1) (m + cInst 23) (fun b => P b ∨ b = s.1) G0 (nO C 23 (cInst 23)) (nO G 23 (cInst 23)) := by
  obtain ⟨h1, h2, h3, h4, h5, h6, h7, h8, h9, h10, h11, h12, h13, h14⟩ := h
  have hlt : ∀ a, Dm kd a → φ a < s.1 := by
    intro a ha
    rcases ha with ha | ha
    · rw [ha, h2, ← h10]; exact h9.1
    · rw [← h10]
      exact (h9.2 (φ a) (by rw [h4 a ha]; exact ha)).2
  have hne : ∀ a, Dm kd a → a ≠ s.2 := by
    intro a ha e
    rcases ha with ha | ha
    · omega
    · exact ha (h14 a (by omega))
  have hu : ∀ a, a ≠ s.2 → u1 φ s.2 s.1 a = φ a := fun a ha => if_neg ha
  have hk : ∀ a, a ≠ s.2 → u1 kd s.2 23 a = kd a := fun a ha => if_neg ha
  have hus : u1 φ s.2 s.1 s.2 = s.1 := if_pos rfl
  have hks : u1 kd s.2 23 s.2 = 23 := if_pos rfl
  have hD : ∀ a, a ≠ s.2 → Dm (u1 kd s.2 23) a → Dm kd a := fun a ha hd => by
    unfold Dm at hd ⊢
    rw [hk a ha] at hd; exact hd
  have hD' : ∀ a, Dm kd a → Dm (u1 kd s.2 23) a := fun a hd => by
    have := hne a hd
    unfold Dm at hd ⊢
    rw [hk a this]; exact hd
  refine ⟨?_, ?_, ?_, ?_, ?_, ?_, ?_, ⟨(h8.1.nO).mono (fun a _ ha => Or.inl ha), fun b g hb hg => by rw [hR_nO, if_neg (by have := h8.1.1; omega)]; exact h8.2 b g hb hg⟩, h9.nO, ?_, ?_, ?_, ?_, ?_⟩
  · show u1 (hK C) (hS C) 23 = _
    rw [h1, h12]
  · rw [hu 0 (by omega)]; exact h2
  · intro a b ha hb2 e
    by_cases ea : a = s.2
    · by_cases eb : b = s.2
      · rw [ea, eb]
      · rw [ea, hus, hu b eb] at e
        have := hlt b (hD b eb hb2)
        omega
    · by_cases eb : b = s.2
      · rw [eb, hus, hu a ea] at e
        have := hlt a (hD a ea ha)
        omega
      · rw [hu a ea, hu b eb] at e
        exact h3 a b (hD a ea ha) (hD b eb hb2) e
  · intro a ha
    rw [hK_nO, h10]
    by_cases ea : a = s.2
    · rw [ea, hus, hks, if_pos rfl]
    · rw [hk a ea] at ha ⊢
      have := hlt a (Or.inr ha)
      rw [hu a ea, if_neg (by omega), h4 a ha]
  · refine ⟨fun a f hf => ?_, fun a f hf => ?_⟩
    · rw [hI_nO, hI_nO, h10, h12]
      by_cases ea : a = s.2
      · rw [ea, hus, if_pos rfl, if_pos rfl]
      · rw [hk a ea] at hf
        have h0 : kd a ≠ 0 := fun e => tfI_0 (by rw [e] at hf; exact hf)
        have := hlt a (Or.inr h0)
        have hn : ¬ φ a = s.1 := by omega
        rw [hu a ea, if_neg hn, if_neg ea]
        exact h5.1 a f hf
    · rw [hR_nO, hR_nO, h10, h12]
      by_cases ea : a = s.2
      · rw [ea, hus, if_pos rfl, if_pos rfl]
        exact ⟨Or.inl rfl, by rw [hu 0 (by omega), h2]⟩
      · rw [hk a ea] at hf
        have h0 : kd a ≠ 0 := fun e => tfR_0 (by rw [e] at hf; exact hf)
        have := hlt a (Or.inr h0)
        have q := h5.2 a f hf
        have hn : ¬ φ a = s.1 := by omega
        rw [hu a ea, if_neg hn, if_neg ea, hu _ (hne _ q.1)]
        exact ⟨hD' _ q.1, q.2⟩
  · intro a ha h0
    by_cases ea : a = s.2
    · rw [ea, hus]; exact hb
    · rw [hk a ea] at h0
      rw [hu a ea]
      exact h6 a ha h0
  · intro a ha h0
    by_cases ea : a = s.2
    · rw [ea, hus]; exact Or.inr rfl
    · rw [hk a ea] at h0
      rw [hu a ea]
      exact Or.inl (h7 a ha h0)
  · rw [hS_nO, h10]
  · rw [hM_nO, h11]
  · rw [hS_nO, h12]
  · show 6 < s.2 + 1
    omega
  · intro a ha
    have ha2 : s.2 + 1 ≤ a := ha
    rw [hk a (by omega)]
    exact h14 a (by omega)
theorem Rl.up (h : Rl γ φ kd s m P G0 C G) {a : Nat} (hd : Dm kd a) : Dm (u1 kd s.2 23) a ∧ φ a = u1 φ s.2 s.1 a := by
  obtain ⟨h1, h2, h3, h4, h5, h6, h7, h8, h9, h10, h11, h12, h13, h14⟩ := h
  have hne : a ≠ s.2 := by
    rcases hd with ha | ha
    · omega
    · exact fun e => ha (h14 a (by omega))
  refine ⟨?_, (if_neg hne).symm⟩
  unfold Dm at hd ⊢
  rw [show u1 kd s.2 23 a = kd a from if_neg hne]
  exact hd
theorem Rl.ren {ρ kd1 : Nat → Nat} {C1 : AH} {s2 : Nat} (h : Rl γ φ kd s m P G0 C G) (r0 : ρ 0 = 0) (ri : ∀ a b, Dm kd1 a → Dm kd1 b → ρ a = ρ b → a = b) (rk : ∀ a, kd1 a ≠ 0 → kd (ρ a) = kd1 a)
    (rI : ∀ a f, f ∈ tfI (kd1 a) → hI C1 f a = hI C f (ρ a)) (rf : ∀ a f, f ∈ tfR (kd1 a) → Dm kd1 (hR C1 f a) ∧ hR C f (ρ a) = ρ (hR C1 f a)) (r6 : ∀ a, 6 < a → kd1 a ≠ 0 → 6 < ρ a) (e1 : hK C1 = kd1) (e2 : hS C1 = s2) (e3 : 6 < s2) (e4 : ∀ a, s2 ≤ a → kd1 a = 0) :
    Rl γ (fun a => φ (ρ a)) kd1 (s.1, s2) m P G0 C1 G := by
  obtain ⟨h1, h2, h3, h4, h5, h6, h7, h8, h9, h10, h11, h12, h13, h14⟩ := h
  have hD : ∀ a, Dm kd1 a → Dm kd (ρ a) := by
    intro a ha
    rcases ha with ha | ha
    · exact Or.inl (by rw [ha, r0])
    · exact Or.inr (by rw [rk a ha]; exact ha)
  refine ⟨e1, by show φ (ρ 0) = 0; rw [r0, h2], fun a b ha hb e => ri a b ha hb (h3 _ _ (hD a ha) (hD b hb) e), fun a ha => ?_, ⟨fun a f hf => ?_, fun a f hf => ?_⟩, fun a ha h0 => h6 _ (r6 a ha h0) (by rw [rk a h0]; exact h0), fun a ha h0 => ?_, h8, h9, h10, h11, e2, e3, e4⟩
  · rw [h4 (ρ a) (by rw [rk a ha]; exact ha)]
    exact rk a ha
  · have h0 : kd1 a ≠ 0 := fun e => tfI_0 (by rw [e] at hf; exact hf)
    rw [rI a f hf]
    exact h5.1 (ρ a) f (by rw [rk a h0]; exact hf)
  · have h0 : kd1 a ≠ 0 := fun e => tfR_0 (by rw [e] at hf; exact hf)
    obtain ⟨q2, q3⟩ := rf a f hf
    obtain ⟨p2, p3⟩ := h5.2 (ρ a) f (by rw [rk a h0]; exact hf)
    exact ⟨q2, by show hR G f (φ (ρ a)) = φ (ρ (hR C1 f a)); rw [← q3]; exact p3⟩
  · have h1 : kd1 a ≠ 0 := by omega
    exact h7 (ρ a) (r6 a ha h1) (by rw [rk a h1]; exact h0)
/-- a value comes into the small heap -/
def sK (C : AH) (a k : Nat) : AH := (C.1, u1 (hK C) a k, hL C, hI C, hR C, hA C, hQ C, hJ C, hD C)
theorem Rl.val {c v : Nat} (h : Rl γ φ kd s m P G0 C G) (hc : kd c = 0) (h0 : c ≠ 0) (hlt : c < s.2) (hv : hK G v = 22) (hv2 : γ.2 < v) (hv3 : ∀ a, kd a = 22 → φ a ≠ v) : Rl γ (u1 φ c v) (u1 kd c 22) s m P G0 (sK C c 22) G := by
  obtain ⟨h1, h2, h3, h4, h5, h6, h7, h8, h9, h10, h11, h12, h13, h14⟩ := h
  have hu : ∀ a, a ≠ c → u1 φ c v a = φ a := fun a ha => if_neg ha
  have hk : ∀ a, a ≠ c → u1 kd c 22 a = kd a := fun a ha => if_neg ha
  have hus : u1 φ c v c = v := if_pos rfl
  have hks : u1 kd c 22 c = 22 := if_pos rfl
  have hD : ∀ a, a ≠ c → Dm (u1 kd c 22) a → Dm kd a := fun a ha hd => by
    unfold Dm at hd ⊢
    rw [hk a ha] at hd; exact hd
  have hv0 : v ≠ 0 := by
    have := h9.2 v (by rw [hv]; decide)
    omega
  have hne : ∀ a, Dm kd a → φ a ≠ v := by
    intro a ha e
    rcases ha with ha | ha
    · rw [ha, h2] at e; exact hv0 e.symm
    · have := h4 a ha
      rw [e, hv] at this
      exact hv3 a this.symm e
  have hnc : ∀ a, Dm kd a → a ≠ c := by
    intro a ha e
    rcases ha with ha | ha
    · exact h0 (e ▸ ha)
    · exact ha (e ▸ hc)
  refine ⟨?_, ?_, ?_, ?_, ?_, ?_, ?_, h8, h9, h10, h11, h12, h13, ?_⟩
  · show u1 (hK C) c 22 = _
    rw [h1]
  · rw [hu 0 (fun e => h0 e.symm)]; exact h2
  · intro a b ha hb e
    by_cases ea : a = c
    · by_cases eb : b = c
      · rw [ea, eb]
      · rw [ea, hus, hu b eb] at e
        exact absurd e.symm (hne b (hD b eb hb))
    · by_cases eb : b = c
      · rw [eb, hus, hu a ea] at e
        exact absurd e (hne a (hD a ea ha))
      · rw [hu a ea, hu b eb] at e
        exact h3 a b (hD a ea ha) (hD b eb hb) e
  · intro a ha
    by_cases ea : a = c
    · rw [ea, hus, hks]; exact hv
    · rw [hk a ea] at ha ⊢
      rw [hu a ea]; exact h4 a ha
  · refine ⟨fun a f hf => ?_, fun a f hf => ?_⟩
    · by_cases ea : a = c
      · rw [ea, hks] at hf
        exact absurd (show f ∈ [] from hf) List.not_mem_nil
      · rw [hk a ea] at hf
        rw [hu a ea]; exact h5.1 a f hf
    by_cases ea : a = c
    · rw [ea, hks] at hf
      exact absurd (show f ∈ [] from hf) List.not_mem_nil
    · rw [hk a ea] at hf
      obtain ⟨q2, q3⟩ := h5.2 a f hf
      have hx := hnc _ q2
      refine ⟨?_, ?_⟩
      · show Dm (u1 kd c 22) (hR C f a)
        unfold Dm at q2 ⊢
        rw [hk _ hx]; exact q2
      · rw [hu a ea]
        show hR G f (φ a) = u1 φ c v (hR C f a)
        rw [hu _ hx]; exact q3
  · intro a ha hk0
    by_cases ea : a = c
    · rw [ea, hus]; exact hv2
    · rw [hk a ea] at hk0
      rw [hu a ea]; exact h6 a ha hk0
  · intro a ha hk0
    by_cases ea : a = c
    · rw [ea, hks] at hk0; omega
    · rw [hk a ea] at hk0
      rw [hu a ea]; exact h7 a ha hk0
  · intro a ha
    rw [hk a (by omega)]; exact h14 a ha
end SIM
