def usg (S : St) (f : Nat) (v : Int32) : St := (S.1, u1 (sg S) f v, sk S, sc S, sl S, sv S)
def usk (S : St) (i f : Nat) (v : Int32) : St := (S.1, sg S, u2 (sk S) i f v, sc S, sl S, sv S)
def usc (S : St) (j f : Nat) (v : Int32) : St := (S.1, sg S, sk S, u2 (sc S) j f v, sl S, sv S)
def usl (S : St) (w : Nat) (l : Ln) : St := (S.1, sg S, sk S, sc S, u1 (sl S) w (sl S w ++ [l]), sv S)
def usv (S : St) (j n : Nat) : St := (S.1, sg S, sk S, sc S, sl S, u1 (sv S) j n)
theorem sg_usg (S : St) (f : Nat) (v : Int32) (x : Nat) : sg (usg S f v) x = if x = f then v else sg S x := rfl
theorem sk_usk (S : St) (i f : Nat) (v : Int32) (x y : Nat) : sk (usk S i f v) x y = if x = i ∧ y = f then v else sk S x y := rfl
theorem sc_usc (S : St) (i f : Nat) (v : Int32) (x y : Nat) : sc (usc S i f v) x y = if x = i ∧ y = f then v else sc S x y := rfl
theorem sl_usl (S : St) (w : Nat) (l : Ln) (x : Nat) : sl (usl S w l) x = if x = w then sl S w ++ [l] else sl S x := rfl
theorem sv_usv (S : St) (j n x : Nat) : sv (usv S j n) x = if x = j then n else sv S x := rfl
section UPD
variable {γ : GP} {G G1 : AH} {own own1 ga : Nat → Nat} {tr : Nat → List Nat} {et : Nat → Nat → Nat} {S S1 : St} {hb : Nat → Prop} {ms ms1 : List Ms} {T : Nat}
theorem Kt.upd (h : Kt γ G own ga tr et hb S ms) (hw : Wf G) (hc : Cn γ G) (hw1 : Wf G1) (hT : T ≠ 0 ∧ T ≠ 9 ∧ T ≠ 2 ∧ T ≠ 3 ∧ ∀ j, j < 8 → T ≠ 70 + j) (hF : Fc (fun b => own b = T) G G1) (ho : ∀ a, a < hS G → own1 a = own a) (ho1 : ∀ a, hS G1 ≤ a → own1 a = 0) (h9 : ∀ a, hS G ≤ a → own1 a = 9 → 28 ≤ hK G1 a ∧ hK G1 a ≤ 32) (h9b : ∀ a, hS G ≤ a → 28 ≤ hK G1 a → hK G1 a ≤ 32 → own1 a = 0 ∨ own1 a = 9) (hb1 : (∀ a, hS G ≤ a → hb a) ∨ own1 = own)
    (en : nk S1 = nk S) (ec : nc S1 = nc S)
    (x1 : T = 1 → K1 γ G1 own1 ga S1) (e1 : T ≠ 1 → sg S1 0 = sg S 0 ∧ sg S1 4 = sg S 4)
    (x4 : T = 4 → K4 γ G1 own1 ga S1) (e4 : T ≠ 4 → sg S1 3 = sg S 3)
    (x5 : T = 5 → LogR γ G1 own1 (ga 5) 5 (sl S1 0)) (e5 : T ≠ 5 → sl S1 0 = sl S 0)
    (x6 : T = 6 → MsgsR γ G1 own1 (ga 6) 6 ms1) (e6 : T ≠ 6 → ms1 = ms)
    (xc : ∀ i, i < nk S → T = 10 + i → KC γ G1 own1 ga S1 i) (eC : ∀ i, i < nk S → T ≠ 10 + i → sk S1 i 0 = sk S i 0 ∧ sk S1 i 1 = sk S i 1)
    (xl : ∀ i, i < nk S → T = 20 + i → LogR γ G1 own1 (ga (20 + i)) (20 + i) (sl S1 (i + 1))) (el : ∀ i, i < nk S → T ≠ 20 + i → sl S1 (i + 1) = sl S (i + 1))
    (xa : ∀ i, i < nk S → ∀ b, b < 3 → T = 30 + 3 * i + b → KA γ G1 own1 ga S1 i b) (ea : ∀ i, i < nk S → ∀ b, b < 3 → T ≠ 30 + 3 * i + b → ∀ y, y < 4 → sk S1 i (3 + 4 * b + y) = sk S i (3 + 4 * b + y))
    (xo : ∀ j, j < nc S → T = 60 + j → KO γ G1 own1 ga S1 j) (eo : ∀ j, j < nc S → T ≠ 60 + j → sc S1 j 0 = sc S j 0 ∧ sc S1 j 1 = sc S j 1 ∧ sc S1 j 2 = sc S j 2 ∧ sv S1 j = sv S j)
    (eT : ∀ j, j < nc S → ∀ d, d < 6 → sc S1 j (4 + 4 * d) = sc S j (4 + 4 * d))
    (xd : ∀ j, j < nc S → ∀ d, d < 6 → isD S j d → T = 80 + 6 * j + d → KD γ G1 own1 ga S1 j d) (ed : ∀ j, j < nc S → ∀ d, d < 6 → T ≠ 80 + 6 * j + d → sc S1 j (4 + 4 * d + 1) = sc S j (4 + 4 * d + 1) ∧ sc S1 j (4 + 4 * d + 2) = sc S j (4 + 4 * d + 2) ∧ sc S1 j (4 + 4 * d + 3) = sc S j (4 + 4 * d + 3)) :
    Kt γ G1 own1 ga tr et hb S1 ms1 := by
  obtain ⟨⟨b1, b2, b3, b4, b5⟩, k1, k2, k3, k4, k5, k6, kc, kl, ka, ko, kt, kd⟩ := h
  have hlt := hc.lt
  have ho' : ∀ a, a < hS G → own a ≠ 0 → own1 a = own a := fun a l _ => ho a l
  have n9 : ∀ a, own a = 9 → ¬ own a = T := fun a q r => hT.2.1 (by rw [← r, q])
  have nt : ∀ t, T ≠ t → ∀ a, own a = t → ¬ own a = T := fun t ht a q r => ht (by rw [← r, q])
  have hlow : ∀ a, own a = T → γ.2 < a := fun a q => by
    rcases Nat.lt_or_ge γ.2 a with w | w
    · exact w
    · exact absurd (by rw [← q, b1 a w]) hT.1
  refine ⟨⟨fun a ha => by rw [ho a (by omega)]; exact b1 a ha, ho1, fun a q q9 => ?_, by rw [en]; exact b4, by rw [ec]; exact b5.1, fun a q => ?_, fun a q1 q2 => ?_⟩, ?_, ?_, ?_, ?_, ?_, ?_, ?_, ?_, ?_, ?_, ?_, ?_⟩
  · rcases hb1 with w | w
    · rcases Nat.lt_or_ge a (hS G) with l | l
      · rw [ho a l] at q q9; exact b3 a q q9
      · exact w a l
    · rw [w] at q q9; exact b3 a q q9
  · rcases Nat.lt_or_ge a (hS G) with l | l
    · rw [ho a l] at q
      rw [hF.kind l]; exact b5.2.1 a q
    · exact h9 a l q
  · rcases Nat.lt_or_ge a (hS G) with l | l
    · rw [hF.kind l] at q1 q2
      rw [ho a l]; exact b5.2.2 a q1 q2
    · exact h9b a l q1 q2
  · by_cases c : T = 1
    · exact x1 c
    · exact k1.keep hw hF ho' (nt 1 c) (e1 c).1 (e1 c).2
  · rw [en]; exact k2.keep (by decide) hw hF ho' (nt 2 hT.2.2.1)
  · rw [ec]; exact k3.keep (by decide) hw hF ho' (nt 3 hT.2.2.2.1)
  · by_cases c : T = 4
    · exact x4 c
    · exact k4.keep hw hF ho' (nt 4 c) (e4 c)
  · by_cases c : T = 5
    · exact x5 c
    · rw [e5 c]; exact k5.keep (by decide) hw hF ho' (nt 5 c) n9
  · by_cases c : T = 6
    · exact x6 c
    · rw [e6 c]; exact k6.keep (by decide) hw hF ho' (nt 6 c) n9
  · rw [en]
    intro i hi
    by_cases c : T = 10 + i
    · exact xc i hi c
    · exact (kc i hi).keep hw hF ho' (nt _ c) (eC i hi c).1 (eC i hi c).2
  · rw [en]
    intro i hi
    by_cases c : T = 20 + i
    · exact xl i hi c
    · rw [el i hi c]; exact (kl i hi).keep (by omega) hw hF ho' (nt _ c) n9
  · rw [en]
    intro i hi b hbb
    by_cases c : T = 30 + 3 * i + b
    · exact xa i hi b hbb c
    · exact (ka i hi b hbb).keep hw hF ho' (nt _ c) (ea i hi b hbb c)
  · rw [ec]
    intro j hj
    by_cases c : T = 60 + j
    · exact xo j hj c
    · obtain ⟨q1, q2, q3, q4⟩ := eo j hj c
      exact (ko j hj).keep hw hF ho' (nt _ c) q1 q2 q3 q4
  · rw [ec]
    intro j hj
    exact (kt j hj).keep hw hw1 hc hF hlow ho' (nt _ (hT.2.2.2.2 j (by have := b5.1; omega))) (eT j hj)
  · rw [ec]
    intro j hj d hd hx
    have hx' : isD S j d := by
      unfold isD at hx ⊢
      rw [← eT j hj d hd]; exact hx
    by_cases c : T = 80 + 6 * j + d
    · exact xd j hj d hd hx' c
    · obtain ⟨q1, q2, q3⟩ := ed j hj d hd c
      exact (kd j hj d hd hx').keep hw hF ho' (nt _ c) (eT j hj d hd) q1 q2 q3
theorem Fc.stI {a f c : Nat} {v : Int32} (hw : Wf G) (hk : hK G a = c) (hc : c ≠ 15 ∧ c ≠ 21 ∧ c ≠ 26) (ho : own a = T) : Fc (fun b => own b = T) G (sI G f a v) :=
  (((Fr.refl (fun b => b = a) G).sI (Or.inl rfl)).toC hw (fun b _ e => by rw [e, hk]; exact hc)).mono (fun b _ e => by rw [e]; exact ho)
theorem Fc.stR {a f c v : Nat} (hw : Wf G) (hk : hK G a = c) (hc : c ≠ 15 ∧ c ≠ 21 ∧ c ≠ 26) (ho : own a = T) : Fc (fun b => own b = T) G (sR G f a v) :=
  (((Fr.refl (fun b => b = a) G).sR (Or.inl rfl)).toC hw (fun b _ e => by rw [e, hk]; exact hc)).mono (fun b _ e => by rw [e]; exact ho)
theorem Fc.stA {a i c : Nat} {v : Int32} (hw : Wf G) (hk : hK G a = c) (hc : c ≠ 15 ∧ c ≠ 21 ∧ c ≠ 26) (ho : own a = T) : Fc (fun b => own b = T) G (sA G a i v) :=
  (((Fr.refl (fun b => b = a) G).sA (Or.inl rfl)).toC hw (fun b _ e => by rw [e, hk]; exact hc)).mono (fun b _ e => by rw [e]; exact ho)
end UPD
