/-! what a kitchen is, and how it lies in the heap -/
abbrev Ln := Int32 × Int32 × Int32
abbrev Ms := Nat × Nat × Nat × Int32
abbrev St := (Nat × Nat) × (Nat → Int32) × (Nat → Nat → Int32) × (Nat → Nat → Int32) × (Nat → List Ln) × (Nat → Nat)
def nk (S : St) : Nat := S.1.1
def nc (S : St) : Nat := S.1.2
/-- 0 the minute, 3 whether the host is out, 4 lost -/
def sg (S : St) : Nat → Int32 := S.2.1
/-- of a cook: 0 distance, 1 fainted, 3.. stock, 7.. brought, 11.. used -/
def sk (S : St) : Nat → Nat → Int32 := S.2.2.1
/-- of a course: 0 phase, 1 asked, 2 decided; of dish d at 4 + 4 d: 0 or the ingredient and 1, amount, how, since -/
def sc (S : St) : Nat → Nat → Int32 := S.2.2.2.1
/-- the log of the host (0), of cook i (i + 1) -/
def sl (S : St) : Nat → List Ln := S.2.2.2.2.1
def sv (S : St) : Nat → Nat := S.2.2.2.2.2
/-- constants: B is the heap at the start -/
def CoK (γ : GP) (B : AH) : Prop :=
  (∀ i, i < 48 → γ.1 i ≤ γ.2) ∧ (hK B (γ.1 0) = 106 ∧ hL B (γ.1 0) = 0) ∧
  (hK B (γ.1 9) = 107 ∧ hL B (γ.1 9) = 256 ∧ ∀ i, i < 256 → hK B (hQ B (γ.1 9) i) = 12 ∧ hI B 61 (hQ B (γ.1 9) i) = Int32.ofNat i - 128 ∧ hQ B (γ.1 9) i ≤ γ.2) ∧
  ((hK B (γ.1 10) = 37 ∧ hI B 130 (γ.1 10) = 0) ∧ (hK B (γ.1 11) = 38 ∧ hI B 130 (γ.1 11) = 1) ∧ (hK B (γ.1 7) = 39 ∧ hI B 130 (γ.1 7) = 2) ∧ (hK B (γ.1 6) = 40 ∧ hI B 130 (γ.1 6) = 3) ∧ (hK B (γ.1 8) = 41 ∧ hI B 130 (γ.1 8) = 4))
def Low (γ : GP) (B G : AH) : Prop := γ.2 < hS G ∧ ∀ a, a ≤ γ.2 → hK G a = hK B a ∧ hL G a = hL B a ∧ (∀ f, hI G f a = hI B f a) ∧ (∀ f, f ≠ 68 → f ≠ 74 → hR G f a = hR B f a) ∧ hA G a = hA B a ∧ hQ G a = hQ B a
def Cn (γ : GP) (G : AH) : Prop := ∃ B, CoK γ B ∧ Low γ B G
theorem Low.keep {γ : GP} {B G G1 : AH} {P : Nat → Prop} (h : Low γ B G) (hF : Fc P G G1) (hp : ∀ a, P a → γ.2 < a) : Low γ B G1 := by
  refine ⟨Nat.lt_of_lt_of_le h.1 hF.le, fun a ha => ?_⟩
  have hl : a < hS G := Nat.lt_of_le_of_lt ha h.1
  have hn : ¬ P a := fun q => absurd (hp a q) (by omega)
  have k := h.2 a ha
  exact ⟨by rw [hF.kind hl]; exact k.1, by rw [hF.rL hl]; exact k.2.1, fun f => by rw [hF.rI hl hn]; exact k.2.2.1 f, fun f h1 h2 => by rw [hF.rR hl hn ⟨h1, h2⟩]; exact k.2.2.2.1 f h1 h2, by rw [hF.rA hl hn]; exact k.2.2.2.2.1, by rw [hF.rQ hl hn]; exact k.2.2.2.2.2⟩
theorem Cn.keep {γ : GP} {G G1 : AH} {P : Nat → Prop} (h : Cn γ G) (hF : Fc P G G1) (hp : ∀ a, P a → γ.2 < a) : Cn γ G1 := by
  obtain ⟨B, h1, h2⟩ := h
  exact ⟨B, h1, h2.keep hF hp⟩
section CN
variable {γ : GP} {G : AH}
theorem Cn.lt (h : Cn γ G) : γ.2 < hS G := h.elim (fun _ q => q.2.1)
theorem Cn.le (h : Cn γ G) {i : Nat} (hi : i < 48) : γ.1 i ≤ γ.2 := h.elim (fun _ q => q.1.1 i hi)
theorem Cn.emp (h : Cn γ G) : hK G (γ.1 0) = 106 ∧ hL G (γ.1 0) = 0 := by
  obtain ⟨B, h1, h2⟩ := h
  have k := h2.2 _ (h1.1 0 (by decide))
  exact ⟨by rw [k.1]; exact h1.2.1.1, by rw [k.2.1]; exact h1.2.1.2⟩
theorem Cn.cache (h : Cn γ G) : hK G (γ.1 9) = 107 ∧ hL G (γ.1 9) = 256 ∧ ∀ i, i < 256 → hK G (hQ G (γ.1 9) i) = 12 ∧ hI G 61 (hQ G (γ.1 9) i) = Int32.ofNat i - 128 ∧ hQ G (γ.1 9) i ≤ γ.2 := by
  obtain ⟨B, h1, h2⟩ := h
  have k := h2.2 _ (h1.1 9 (by decide))
  obtain ⟨c1, c2, c3⟩ := h1.2.2.1
  refine ⟨by rw [k.1]; exact c1, by rw [k.2.1]; exact c2, fun i hi => ?_⟩
  rw [k.2.2.2.2.2]
  obtain ⟨d1, d2, d3⟩ := c3 i hi
  have k2 := h2.2 _ d3
  exact ⟨by rw [k2.1]; exact d1, by rw [k2.2.2.1]; exact d2, d3⟩
theorem Cn.b9 (h : Cn γ G) : γ.1 9 ≤ γ.2 ∧ hK G (γ.1 9) = 107 ∧ ∀ i, i < 6 → bx γ G i ≤ γ.2 := ⟨h.le (by decide), h.cache.1, fun i hi => (h.cache.2.2 (i + 128) (by omega)).2.2⟩
/-- the constant of a dish's way -/
def howA (γ : GP) (v : Int32) : Nat := if v = 0 then γ.1 10 else if v = 1 then γ.1 11 else if v = 2 then γ.1 7 else if v = 3 then γ.1 6 else γ.1 8
def howK (v : Int32) : Nat := if v = 0 then 37 else if v = 1 then 38 else if v = 2 then 39 else if v = 3 then 40 else 41
def isHow (v : Int32) : Prop := v = 0 ∨ v = 1 ∨ v = 2 ∨ v = 3 ∨ v = 4
theorem Cn.how (h : Cn γ G) {v : Int32} (hv : isHow v) : hK G (howA γ v) = howK v ∧ hI G 130 (howA γ v) = v ∧ howA γ v ≤ γ.2 := by
  obtain ⟨B, h1, h2⟩ := h
  obtain ⟨c0, c1, c2, c3, c4⟩ := h1.2.2.2
  have e : ∀ j n : Nat, ∀ w : Int32, j < 48 → hK B (γ.1 j) = n ∧ hI B 130 (γ.1 j) = w → hK G (γ.1 j) = n ∧ hI G 130 (γ.1 j) = w ∧ γ.1 j ≤ γ.2 := by
    intro j n w hj q
    have k := h2.2 _ (h1.1 j hj)
    exact ⟨by rw [k.1]; exact q.1, by rw [k.2.2.1]; exact q.2, h1.1 j hj⟩
  rcases hv with q | q | q | q | q <;> subst q
  · exact e 10 _ _ (by decide) c0
  · exact e 11 _ _ (by decide) c1
  · exact e 7 _ _ (by decide) c2
  · exact e 6 _ _ (by decide) c3
  · exact e 8 _ _ (by decide) c4
theorem Cn.howInj (h : Cn γ G) {v w : Int32} (hv : isHow v) (hw : isHow w) (e : howA γ v = howA γ w) : v = w := by
  rw [← (h.how hv).2.1, ← (h.how hw).2.1, e]
end CN
def ALo (γ : GP) (G : AH) (own : Nat → Nat) (x t : Nat) (L : List Nat) : Prop := AL γ G x L ∧ own x = t ∧ (γ.2 < hR G 15 x → own (hR G 15 x) = t)
def LineR (γ : GP) (G : AH) (own : Nat → Nat) (a : Nat) (l : Ln) : Prop := hK G a = 28 ∧ own a = 9 ∧ hI G 110 a = l.1 ∧ hI G 111 a = l.2.1 ∧ hI G 112 a = l.2.2
def LogR (γ : GP) (G : AH) (own : Nat → Nat) (x t : Nat) (ls : List Ln) : Prop := ∃ L, ALo γ G own x t L ∧ L.length = ls.length ∧ ∀ i, i < ls.length → LineR γ G own (nd L i) (ls.getD i (0, 0, 0))
def MsgR (γ : GP) (G : AH) (own : Nat → Nat) (a : Nat) (m : Ms) : Prop := own a = 9 ∧ (
  (m.1 = 0 ∧ hK G a = 29 ∧ hI G 113 a = Int32.ofNat m.2.1 ∧ hI G 114 a = Int32.ofNat m.2.2.1 ∧ hI G 115 a = m.2.2.2) ∨
  ((m.1 = 1 ∨ m.1 = 2) ∧ hK G a = 32 ∧ hI G 123 a = Int32.ofNat m.2.1 ∧ hI G 124 a = Int32.ofNat m.2.2.1 ∧ hI G 125 a = m.2.2.2 ∧ hI G 126 a = if m.1 = 1 then 1 else 0) ∨
  ((m.1 = 3 ∨ m.1 = 4) ∧ hK G a = 30 ∧ hI G 116 a = Int32.ofNat m.2.1 ∧ hI G 117 a = Int32.ofNat m.2.2.1 ∧ hI G 118 a = m.2.2.2 ∧ hI G 119 a = if m.1 = 3 then 1 else 0) ∨
  (m.1 = 5 ∧ hK G a = 31 ∧ hI G 120 a = Int32.ofNat m.2.1 ∧ hI G 121 a = Int32.ofNat m.2.2.1 ∧ hI G 122 a = m.2.2.2))
def MsgsR (γ : GP) (G : AH) (own : Nat → Nat) (x t : Nat) (ms : List Ms) : Prop := ∃ ns L, LL γ G x ns L ∧ own x = t ∧ (∀ a ∈ ns, own a = t) ∧ L.length = ms.length ∧ ∀ i, i < ms.length → MsgR γ G own (nd L i) (ms.getD i (0, 0, 0, 0))
def K1 (γ : GP) (G : AH) (own ga : Nat → Nat) (S : St) : Prop := hK G (ga 1) = 2 ∧ γ.2 < ga 1 ∧ own (ga 1) = 1 ∧ hR G 8 (ga 1) = ga 2 ∧ hR G 9 (ga 1) = ga 3 ∧ hR G 10 (ga 1) = ga 4 ∧ hR G 11 (ga 1) = ga 6 ∧ hI G 12 (ga 1) = sg S 0 ∧ hI G 13 (ga 1) = sg S 4
def cks (ga : Nat → Nat) (n : Nat) : List Nat := (List.range n).map (fun i => ga (10 + i))
def crs (ga : Nat → Nat) (n : Nat) : List Nat := (List.range n).map (fun j => ga (60 + j))
def K4 (γ : GP) (G : AH) (own ga : Nat → Nat) (S : St) : Prop := hK G (ga 4) = 4 ∧ γ.2 < ga 4 ∧ own (ga 4) = 4 ∧ hI G 17 (ga 4) = sg S 3 ∧ hR G 18 (ga 4) = ga 5
def KC (γ : GP) (G : AH) (own ga : Nat → Nat) (S : St) (i : Nat) : Prop := hK G (ga (10 + i)) = 16 ∧ γ.2 < ga (10 + i) ∧ own (ga (10 + i)) = 10 + i ∧ hI G 76 (ga (10 + i)) = sk S i 0 ∧ hI G 17 (ga (10 + i)) = sk S i 1 ∧ hR G 18 (ga (10 + i)) = ga (20 + i) ∧ hR G 77 (ga (10 + i)) = ga (30 + 3 * i) ∧ hR G 78 (ga (10 + i)) = ga (30 + 3 * i + 1) ∧ hR G 79 (ga (10 + i)) = ga (30 + 3 * i + 2)
def KA (γ : GP) (G : AH) (own ga : Nat → Nat) (S : St) (i b : Nat) : Prop := hK G (ga (30 + 3 * i + b)) = 101 ∧ hL G (ga (30 + 3 * i + b)) = 4 ∧ γ.2 < ga (30 + 3 * i + b) ∧ own (ga (30 + 3 * i + b)) = 30 + 3 * i + b ∧ ∀ y, y < 4 → hA G (ga (30 + 3 * i + b)) y = sk S i (3 + 4 * b + y)
def KO (γ : GP) (G : AH) (own ga : Nat → Nat) (S : St) (j : Nat) : Prop := hK G (ga (60 + j)) = 20 ∧ γ.2 < ga (60 + j) ∧ own (ga (60 + j)) = 60 + j ∧ hI G 88 (ga (60 + j)) = sc S j 0 ∧ hI G 89 (ga (60 + j)) = sc S j 1 ∧ hI G 90 (ga (60 + j)) = sc S j 2 ∧ hI G 91 (ga (60 + j)) = Int32.ofNat (sv S j) ∧ hR G 87 (ga (60 + j)) = ga (70 + j)
abbrev isD (S : St) (j d : Nat) : Prop := 0 < sc S j (4 + 4 * d)
def dmp (S : St) (ga : Nat → Nat) (j d : Nat) : Nat := if isD S j d then ga (80 + 6 * j + d) else 0
def KT (γ : GP) (G : AH) (own ga : Nat → Nat) (tr : Nat → List Nat) (et : Nat → Nat → Nat) (S : St) (j : Nat) : Prop := TM γ G (ga (70 + j)) (tr j) (dmp S ga j) (et j) ∧ VwOK G (ga (70 + j)) ∧ own (ga (70 + j)) = 70 + j ∧ (∀ d, d < 6 → isD S j d → own (et j d) = 70 + j) ∧ ∀ d, d < 6 → th (tr j) d = decide (isD S j d)
def KD (γ : GP) (G : AH) (own ga : Nat → Nat) (S : St) (j d : Nat) : Prop := hK G (ga (80 + 6 * j + d)) = 22 ∧ γ.2 < ga (80 + 6 * j + d) ∧ own (ga (80 + 6 * j + d)) = 80 + 6 * j + d ∧ hI G 93 (ga (80 + 6 * j + d)) + 1 = sc S j (4 + 4 * d) ∧ hI G 94 (ga (80 + 6 * j + d)) = sc S j (4 + 4 * d + 1) ∧ hR G 95 (ga (80 + 6 * j + d)) = howA γ (sc S j (4 + 4 * d + 2)) ∧ hI G 96 (ga (80 + 6 * j + d)) = sc S j (4 + 4 * d + 3) ∧ isHow (sc S j (4 + 4 * d + 2))
/-- the kitchen S with the messages ms lies at ga 1; h: all of it lies there -/
def Kt (γ : GP) (G : AH) (own ga : Nat → Nat) (tr : Nat → List Nat) (et : Nat → Nat → Nat) (h : Nat → Prop) (S : St) (ms : List Ms) : Prop :=
  ((∀ a, a ≤ γ.2 → own a = 0) ∧ (∀ a, hS G ≤ a → own a = 0) ∧ (∀ a, own a ≠ 0 → own a ≠ 9 → h a) ∧ nk S ≤ 6 ∧ nc S ≤ 8 ∧ (∀ a, own a = 9 → 28 ≤ hK G a ∧ hK G a ≤ 32) ∧ ∀ a, 28 ≤ hK G a → hK G a ≤ 32 → own a = 0 ∨ own a = 9) ∧
  K1 γ G own ga S ∧ ALo γ G own (ga 2) 2 (cks ga (nk S)) ∧ ALo γ G own (ga 3) 3 (crs ga (nc S)) ∧ K4 γ G own ga S ∧ LogR γ G own (ga 5) 5 (sl S 0) ∧ MsgsR γ G own (ga 6) 6 ms ∧
  (∀ i, i < nk S → KC γ G own ga S i) ∧ (∀ i, i < nk S → LogR γ G own (ga (20 + i)) (20 + i) (sl S (i + 1))) ∧ (∀ i, i < nk S → ∀ b, b < 3 → KA γ G own ga S i b) ∧
  (∀ j, j < nc S → KO γ G own ga S j) ∧ (∀ j, j < nc S → KT γ G own ga tr et S j) ∧ ∀ j, j < nc S → ∀ d, d < 6 → isD S j d → KD γ G own ga S j d
