/-! what always holds of a kitchen and its messages -/
def sumTo : Nat → (Nat → Nat) → Nat
  | 0, _ => 0
  | n + 1, f => sumTo n f + f n
theorem sum_le {n : Nat} {f g : Nat → Nat} (h : ∀ j, j < n → f j ≤ g j) : sumTo n f ≤ sumTo n g := by
  induction n with
  | zero => exact Nat.le_refl _
  | succ n ih =>
    have a := ih (fun j hj => h j (by omega))
    have b := h n (by omega)
    show sumTo n f + f n ≤ sumTo n g + g n
    omega
theorem sum_eq {n : Nat} {f g : Nat → Nat} (h : ∀ j, j < n → f j = g j) : sumTo n f = sumTo n g :=
  Nat.le_antisymm (sum_le (fun j hj => Nat.le_of_eq (h j hj))) (sum_le (fun j hj => Nat.le_of_eq (h j hj).symm))
theorem sum_up {n k x : Nat} {f g : Nat → Nat} (hk : k < n) (h1 : f k + x ≤ g k) (h : ∀ j, j < n → j ≠ k → f j ≤ g j) : sumTo n f + x ≤ sumTo n g := by
  induction n with
  | zero => omega
  | succ n ih =>
    show sumTo n f + f n + x ≤ sumTo n g + g n
    by_cases c : k = n
    · subst c
      have := sum_le (n := k) (f := f) (g := g) (fun j hj => h j (by omega) (by omega))
      omega
    · have a := ih (by omega) (fun j hj => h j (by omega))
      have b := h n (by omega) (by omega)
      omega
theorem sum_const {n c : Nat} {f : Nat → Nat} (h : ∀ j, j < n → f j ≤ c) : sumTo n f ≤ c * n := by
  induction n with
  | zero => exact Nat.zero_le _
  | succ n ih =>
    have a := ih (fun j hj => h j (by omega))
    have b := h n (by omega)
    show sumTo n f + f n ≤ c * (n + 1)
    rw [Nat.mul_succ]; omega
theorem sum_ge {n k : Nat} {f : Nat → Nat} (hk : k < n) : f k ≤ sumTo n f := by
  have := sum_up (n := n) (k := k) (x := f k) (f := fun _ => 0) (g := f) hk (by omega) (fun j _ _ => Nat.zero_le _)
  omega
abbrev n32 (v : Int32) : Nat := v.toNatClampNeg
def isN (v : Int32) (lo hi : Nat) : Prop := v = Int32.ofNat (n32 v) ∧ lo ≤ n32 v ∧ n32 v ≤ hi
theorem isN_of {a lo hi : Nat} (h1 : lo ≤ a) (h2 : a ≤ hi) (h3 : hi < 2147483648) : isN (Int32.ofNat a) lo hi := by
  have e : n32 (Int32.ofNat a) = a := i_nat (by omega)
  exact ⟨by rw [e], by rw [e]; exact h1, by rw [e]; exact h2⟩
theorem isN.up {v : Int32} {lo hi lo2 hi2 : Nat} (h : isN v lo hi) (h1 : lo2 ≤ lo) (h2 : hi ≤ hi2) : isN v lo2 hi2 := ⟨h.1, Nat.le_trans h1 h.2.1, Nat.le_trans h.2.2 h2⟩
theorem isN.sub1 {v : Int32} {lo hi : Nat} (h : isN v (lo + 1) hi) : v - 1 = Int32.ofNat (n32 v - 1) := by
  rw [← i_sub (b := 1) (by have := h.2.1; omega), ← h.1]
  rfl
def lineN (v : Int32) : Nat := if v = 0 then 0 else if v = 1 ∨ v = 2 then 1 else 2
def wl (S : St) (i j : Nat) : Nat := if isD S j i then lineN (hw S j i) else 0
def phN (S : St) (j : Nat) : Nat := if sc S j 0 = 0 then 0 else if sc S j 0 = 1 then 1 else 2
def dn (S : St) (i : Nat) : Nat := n32 (sk S i 0)
def ar (m : Ms) : Nat := n32 m.2.2.2
def dl (S : St) (m : Ms) : Nat := ar m + (if m.1 = 0 ∨ m.1 = 5 then dn S m.2.1 else 0)
def PN (S : St) : Nat := sumTo (nc S) (fun j => (2 - phN S j) * (dks S j).length)
def DN (S : St) : Nat := sumTo (nc S) (fun j => (dks S j).length)
def srvN (S : St) (i j : Nat) : Nat := if isD S j i ∧ hw S j i = 3 then n32 (am S j i) else 0
def bitN (v d : Nat) : Nat := v / 2 ^ d % 2
def yk (i j : Nat) (m : Ms) : Bool := decide (m.1 ≤ 1 ∧ m.2.1 = i ∧ m.2.2.1 = j)
def dk (S : St) (x : Nat) (m : Ms) : Bool := decide (x < dl S m)
def CoI (S : St) (t j : Nat) : Prop := sv S j < 64 ∧ isN (sc S j 0) 0 3 ∧ (sc S j 1 = -1 ∨ isN (sc S j 1) 0 t) ∧ (sc S j 2 = -1 ∨ isN (sc S j 2) 0 t) ∧ (sc S j 0 = 1 → sc S j 1 ≠ -1)
def DiI (S : St) (t j d : Nat) : Prop := d < nk S ∧ isN (sc S j (4 + 4 * d)) 1 4 ∧ isN (am S j d) 1 20 ∧ isHow (hw S j d) ∧ (hw S j d = 0 ∨ isN (sc S j (4 + 4 * d + 3)) 0 t)
def IA (S : St) (t : Nat) : Prop := (sg S 0 = Int32.ofNat t ∧ t < 1000000) ∧ nk S ≤ 6 ∧ nc S ≤ 8 ∧ (sg S 3 = 0 ∨ sg S 3 = 1) ∧ (∀ i, i < nk S → (sk S i 1 = 0 ∨ sk S i 1 = 1) ∧ isN (sk S i 0) 1 5) ∧ (∀ j, j < nc S → CoI S t j) ∧ ∀ j, j < nc S → ∀ d, d < 6 → isD S j d → DiI S t j d
def IL (S : St) : Prop := (sl S 0).length ≤ sumTo (nc S) (phN S) ∧ ∀ i, i < 6 → (sl S (i + 1)).length ≤ sumTo (nc S) (wl S i)
def IU (S : St) : Prop := ∀ i, i < nk S → srvP S i = Int32.ofNat (sumTo (nc S) (srvN S i)) ∧ ∀ y, y < 4 → sk S i (3 + y) = sk S i (7 + y) - sk S i (11 + y)
def VmA (S : St) (lo hi : Nat) (m : Ms) : Prop := Vm S m ∧ isN m.2.2.2 lo hi
def IY (S : St) (l : List Ms) : Prop := ∀ j, j < nc S → ∀ i, i < 6 → l.countP (yk i j) + bitN (sv S j) i ≤ (if sc S j 0 = 0 then 0 else 1)
def IB (S : St) (l : List Ms) (t : Nat) (b : Nat → Nat) : Prop := ∀ k, k ≤ 10 → l.countP (dk S (t + k)) + PN S ≤ b k
/-- what a step leaves as it is -/
def Sk (S S1 : St) : Prop := nk S1 = nk S ∧ nc S1 = nc S ∧ (∀ i, sk S1 i 0 = sk S i 0) ∧ (∀ j d, sc S1 j (4 + 4 * d) = sc S j (4 + 4 * d)) ∧ ∀ j d, am S1 j d = am S j d
section I1
variable {S S1 S2 : St} {t : Nat}
theorem Sk.refl : Sk S S := ⟨rfl, rfl, fun _ => rfl, fun _ _ => rfl, fun _ _ => rfl⟩
theorem Sk.trans (h : Sk S S1) (k : Sk S1 S2) : Sk S S2 := ⟨k.1.trans h.1, k.2.1.trans h.2.1, fun i => (k.2.2.1 i).trans (h.2.2.1 i), fun j d => (k.2.2.2.1 j d).trans (h.2.2.2.1 j d), fun j d => (k.2.2.2.2 j d).trans (h.2.2.2.2 j d)⟩
theorem Sk.isD (h : Sk S S1) {j d : Nat} : isD S1 j d ↔ isD S j d := by
  show (0 < sc S1 j (4 + 4 * d)) ↔ (0 < sc S j (4 + 4 * d))
  rw [h.2.2.2.1]
theorem Sk.dks (h : Sk S S1) (j : Nat) : dks S1 j = dks S j := by
  show (List.range 6).filter (fun d => decide (St.isD S1 j d)) = (List.range 6).filter (fun d => decide (St.isD S j d))
  exact List.filter_congr (fun d _ => decide_eq_decide.mpr h.isD)
theorem Sk.dl (h : Sk S S1) (m : Ms) : dl S1 m = dl S m := by
  show ar m + (if m.1 = 0 ∨ m.1 = 5 then n32 (sk S1 m.2.1 0) else 0) = ar m + (if m.1 = 0 ∨ m.1 = 5 then n32 (sk S m.2.1 0) else 0)
  rw [h.2.2.1]
theorem Sk.dk (h : Sk S S1) (x : Nat) : dk S1 x = dk S x := by
  funext m
  show decide (x < St.dl S1 m) = decide (x < St.dl S m)
  rw [h.dl]
theorem Sk.DN (h : Sk S S1) : DN S1 = DN S := by
  show sumTo (nc S1) (fun j => (St.dks S1 j).length) = sumTo (nc S) (fun j => (St.dks S j).length)
  rw [h.2.1]
  exact sum_eq (fun j _ => by rw [h.dks])
theorem Sk.PN (h : Sk S S1) (hp : ∀ j, j < nc S → phN S1 j = phN S j) : PN S1 = PN S := by
  show sumTo (nc S1) (fun j => (2 - phN S1 j) * (St.dks S1 j).length) = sumTo (nc S) (fun j => (2 - phN S j) * (St.dks S j).length)
  rw [h.2.1]
  exact sum_eq (fun j hj => by rw [h.dks, hp j hj])
theorem Sk.Vm (h : Sk S S1) {m : Ms} (v : Vm S m) : Vm S1 m := ⟨v.1, by rw [h.1]; exact v.2.1, by rw [h.2.1]; exact v.2.2.1, h.isD.mpr v.2.2.2⟩
theorem Sk.VmA (h : Sk S S1) {m : Ms} {lo hi : Nat} (v : VmA S lo hi m) : VmA S1 lo hi m := ⟨h.Vm v.1, v.2⟩
/-- a course but for its phase, and a dish but for how it is -/
theorem IA.ok (a : IA S t) (l : IL S) : Ok S := by
  obtain ⟨a1, a2, a3, a4, a5, a6, a7⟩ := a
  have w16 : ∀ i, sumTo (nc S) (wl S i) ≤ 2 * nc S := fun i => sum_const (fun j _ => by
    unfold wl lineN
    split
    · split
      · omega
      · split <;> omega
    · omega)
  have p16 : sumTo (nc S) (phN S) ≤ 2 * nc S := sum_const (fun j _ => by
    unfold phN
    split
    · omega
    · split <;> omega)
  refine ⟨fun w hw => ?_, fun j hj => (a6 j hj).1, fun j hj d hd hx => ?_, fun i hi => (a5 i hi).1, a4⟩
  · rcases Nat.eq_zero_or_pos w with e | e
    · rw [e]; have := l.1; omega
    · have := l.2 (w - 1) (by omega)
      have := w16 (w - 1)
      rw [show w - 1 + 1 = w from by omega] at *
      omega
  · obtain ⟨q1, q2, q3, q4, q5⟩ := a7 j hj d hd hx
    have e : ig S j d = Int32.ofNat (n32 (sc S j (4 + 4 * d)) - 1) := q2.sub1
    have en : ign S j d = n32 (sc S j (4 + 4 * d)) - 1 := by
      unfold ign
      rw [e, i_nat (by have := q2.2.2; omega)]
    exact ⟨q1, by rw [en]; have := q2.2.2; omega, by rw [en]; exact e⟩
end I1
