/-! frames that look away from the maps' views (fields 68 and 74) -/
def zap (G : AH) : AH := (G.1, hK G, hL G, hI G, (fun f a => if f = 68 ∨ f = 74 then 0 else hR G f a), hA G, hQ G, hJ G, hD G)
def VwOK (G : AH) (x : Nat) : Prop := (hR G 74 x = 0 ∨ (hK G (hR G 74 x) = 21 ∧ hR G 92 (hR G 74 x) = x)) ∧ (hR G 68 x = 0 ∨ (hK G (hR G 68 x) = 26 ∧ hR G 105 (hR G 68 x) = x))
def Fc (P : Nat → Prop) (G G1 : AH) : Prop := Fr P (zap G) (zap G1) ∧ ∀ x, hK G x = 15 → VwOK G x → VwOK G1 x
theorem zR {G : AH} {f a : Nat} (h : f ≠ 68 ∧ f ≠ 74) : hR (zap G) f a = hR G f a := if_neg (fun e => by rcases e with e | e; exact h.1 e; exact h.2 e)
theorem Fr.zp {P : Nat → Prop} {G G1 : AH} (h : Fr P G G1) : Fr P (zap G) (zap G1) := by
  refine ⟨h.1, h.2.1, h.2.2.1, fun a ha hp => ?_⟩
  have s := h.2.2.2 a ha hp
  refine ⟨s.1, fun f => ?_, s.2.2⟩
  show (if f = 68 ∨ f = 74 then 0 else hR G1 f a) = if f = 68 ∨ f = 74 then 0 else hR G f a
  rw [s.2.1 f]
theorem VwOK.keep {G G1 : AH} {x : Nat} (hw : Wf G) (h : VwOK G x) (hx : hR G1 74 x = hR G 74 x ∧ hR G1 68 x = hR G 68 x) (hk : ∀ a, a < hS G → hK G a = 21 ∨ hK G a = 26 → hK G1 a = hK G a ∧ hR G1 92 a = hR G 92 a ∧ hR G1 105 a = hR G 105 a) : VwOK G1 x := by
  refine ⟨?_, ?_⟩
  · rw [hx.1]
    rcases h.1 with h | h
    · exact Or.inl h
    · have := hk _ (hw.2 _ (by rw [h.1]; decide)).2 (Or.inl h.1)
      exact Or.inr ⟨by rw [this.1]; exact h.1, by rw [this.2.1]; exact h.2⟩
  · rw [hx.2]
    rcases h.2 with h | h
    · exact Or.inl h
    · have := hk _ (hw.2 _ (by rw [h.1]; decide)).2 (Or.inr h.1)
      exact Or.inr ⟨by rw [this.1]; exact h.1, by rw [this.2.2]; exact h.2⟩
theorem Fr.toC {P : Nat → Prop} {G G1 : AH} (h : Fr P G G1) (hw : Wf G) (hp : ∀ a, a < hS G → P a → hK G a ≠ 15 ∧ hK G a ≠ 21 ∧ hK G a ≠ 26) : Fc P G G1 := by
  refine ⟨h.zp, fun x hx hv => hv.keep hw ?_ (fun a ha hk => ?_)⟩
  · have l := (hw.2 x (by rw [hx]; decide)).2
    have s := h.2.2.2 x l (fun q => (hp x l q).1 hx)
    exact ⟨s.2.1 74, s.2.1 68⟩
  · have s := h.2.2.2 a ha (fun q => by
      have := hp a ha q
      rcases hk with e | e
      · exact this.2.1 e
      · exact this.2.2 e)
    exact ⟨(h.2.2.1 a ha).1, s.2.1 92, s.2.1 105⟩
theorem Fc.refl (P : Nat → Prop) (G : AH) : Fc P G G := ⟨Fr.refl _ _, fun _ _ h => h⟩
theorem Fc.kind {P : Nat → Prop} {G G1 : AH} (h : Fc P G G1) {a : Nat} (ha : a < hS G) : hK G1 a = hK G a := (h.1.2.2.1 a ha).1
theorem Fc.le {P : Nat → Prop} {G G1 : AH} (h : Fc P G G1) : hS G ≤ hS G1 := h.1.1
theorem Fc.trans {P Q : Nat → Prop} {G G1 G2 : AH} (h : Fc P G G1) (k : Fc Q G1 G2) (hw : Wf G) (hq : ∀ a, Q a → P a ∨ hS G ≤ a) : Fc P G G2 :=
  ⟨h.1.trans k.1 hq, fun x hx hv => k.2 x (by rw [h.kind (hw.2 x (by rw [hx]; decide)).2]; exact hx) (h.2 x hx hv)⟩
theorem Fc.mono {P Q : Nat → Prop} {G G1 : AH} (h : Fc P G G1) (hq : ∀ a, a < hS G → P a → Q a) : Fc Q G G1 := ⟨h.1.mono hq, h.2⟩
theorem Fc.rI {P : Nat → Prop} {G G1 : AH} (h : Fc P G G1) {a f : Nat} (ha : a < hS G) (hp : ¬ P a) : hI G1 f a = hI G f a := (h.1.2.2.2 a ha hp).1 f
theorem Fc.rR {P : Nat → Prop} {G G1 : AH} (h : Fc P G G1) {a f : Nat} (ha : a < hS G) (hp : ¬ P a) (hf : f ≠ 68 ∧ f ≠ 74) : hR G1 f a = hR G f a := by
  have := (h.1.2.2.2 a ha hp).2.1 f
  rw [zR hf, zR hf] at this
  exact this
theorem Fc.rA {P : Nat → Prop} {G G1 : AH} (h : Fc P G G1) {a : Nat} (ha : a < hS G) (hp : ¬ P a) : hA G1 a = hA G a := (h.1.2.2.2 a ha hp).2.2.1
theorem Fc.rQ {P : Nat → Prop} {G G1 : AH} (h : Fc P G G1) {a : Nat} (ha : a < hS G) (hp : ¬ P a) : hQ G1 a = hQ G a := (h.1.2.2.2 a ha hp).2.2.2.1
theorem Fc.rL {P : Nat → Prop} {G G1 : AH} (h : Fc P G G1) {a : Nat} (ha : a < hS G) : hL G1 a = hL G a := (h.1.2.2.1 a ha).2
theorem AL.keepC {γ : GP} {P : Nat → Prop} {G G1 : AH} {x : Nat} {L : List Nat} (hw : Wf G) (hF : Fc P G G1) (h : AL γ G x L) (hx : ¬ P x) (hq : γ.2 < hR G 15 x → ¬ P (hR G 15 x)) : AL γ G1 x L ∧ hR G1 15 x = hR G 15 x := AL.keep (G := zap G) (G1 := zap G1) hw hF.1 h hx hq
theorem LL.keepC {γ : GP} {P : Nat → Prop} {G G1 : AH} {x : Nat} {ns L : List Nat} (hw : Wf G) (hF : Fc P G G1) (h : LL γ G x ns L) (hx : ¬ P x) (hq : ∀ a ∈ ns, ¬ P a) : LL γ G1 x ns L := LL.keep (G := zap G) (G1 := zap G1) hw hF.1 h hx hq
