section C28
variable {γ : GP} {G G0 g g1 : AH} {ga gt : Nat → Nat} {tr tr1 : Nat → List Nat} {et et1 : Nat → Nat → Nat} {S T : St} {hb B : Nat → Prop} {ms : List Ms}
theorem copy_end {S : St} : usg (usg (setL (usg (partS S (nk S) (nc S)) 3 (sg S 3)) 0 (sl S 0)) 0 (sg S 0)) 4 (sg S 4) = S := by
  have e1 : u1 (u1 (u1 (fun f => if f = 0 ∨ f = 3 ∨ f = 4 then 0 else sg S f) 3 (sg S 3)) 0 (sg S 0)) 4 (sg S 4) = sg S := by
    funext f
    unfold u1
    by_cases c4 : f = 4
    · rw [if_pos c4, c4]
    rw [if_neg c4]
    by_cases c0 : f = 0
    · rw [if_pos c0, c0]
    rw [if_neg c0]
    by_cases c3 : f = 3
    · rw [if_pos c3, c3]
    rw [if_neg c3]
    show (if f = 0 ∨ f = 3 ∨ f = 4 then 0 else sg S f) = sg S f
    rw [if_neg (by omega)]
  have e2 : u1 (fun w => if w = 0 then [] else sl S w) 0 (sl S 0) = sl S := by
    funext w
    unfold u1
    by_cases c : w = 0
    · rw [if_pos c, c]
    · rw [if_neg c]
      show (if w = 0 then [] else sl S w) = sl S w
      rw [if_neg c]
  show ((nk S, nc S), u1 (u1 (u1 (fun f => if f = 0 ∨ f = 3 ∨ f = 4 then 0 else sg S f) 3 (sg S 3)) 0 (sg S 0)) 4 (sg S 4), sk S, sc S, u1 (fun w => if w = 0 then [] else sl S w) 0 (sl S 0), sv S) = S
  rw [e1, e2]
  rfl
theorem KS.copy (h0 : KS γ ga tr et B S ms G) (o : Ok S) (hl : ms.length < 100000) :
    wp (f_X2_copy γ (ga 1) G) (fun r => r.1 = hS G ∧ (∃ gt tr1 et1, gt 1 = hS G ∧ KS γ gt tr1 et1 (fun a => hS G ≤ a) S ms r.2) ∧ Fc (fun a => hS G ≤ a) G r.2 ∧ Wf r.2 ∧ hS r.2 ≤ hS G + (195 + ms.length) ∧ hM r.2 ≤ hM G + (1477 + 4 * ms.length)) := by
  have hw := h0.1
  have hc := h0.2.1
  have hn := h0.bnd
  have hlt := hc.lt
  unfold f_X2_copy
  refine wp_bVs (KS.new hw hc S) (fun g1 hr => ?_)
  obtain ⟨_, gt, e1, hT, p5, f1, s1, m1⟩ := hr
  have s1' : hS g1 = hS G + 6 := s1
  have m1' : hM g1 = hM G + 21 := m1
  have F1 : Fc (fun a => hS G ≤ a) G g1 := (f1.toC hw (fun _ _ q => q.elim)).mono (fun _ _ q => q.elim)
  have hs1 := h0.keepAll hT.1 F1 (fun a q => q)
  rw [gR_ok (okf hs1.isK (by decide)), hs1.k1.2.1]
  refine wp_bR (wp_ifc hs1.k2.1 (wp_mono (AL.iterator hT.1 hT.2.1.lt hs1.k2) (fun r2 hr2 => ?_)))
  obtain ⟨a1, a2, a3, a4, a5, a6⟩ := hr2
  have fc2 := a3.toC hT.1 (fun _ _ q => q.elim)
  rw [a1] at a2
  rw [a1]
  have F2 := F1.trans fc2 hw (fun _ q => q.elim)
  have hT2 := hT.guard a4 fc2 (fun _ q => q.elim) (it := hS g1) (Nat.le_refl _) (by omega)
  have o5 : gt 5 < hS g1 := hT.1.k (by
    obtain ⟨_, _, _, _, own, k⟩ := hT
    obtain ⟨L5, q1, _⟩ := k.2.2.2.2.2.1
    exact q1.1.1) (by decide)
  have p52 : hR r2.2 15 (gt 5) = γ.1 0 := by rw [fc2.rR o5 (fun q => q) (by decide)]; exact p5
  refine copyLoop1 h0 (fun i hi => ⟨o.2.2.2.1 i hi, o.1 (i + 1) (by omega)⟩) (fun a q => q.1) (fun q => q.2 rfl) (by omega) FU 0 r2.2 gt (by show _ < 4294967296; omega) (Nat.zero_le _) F2 hT2 a2 e1 p52 (fun r3 gt3 e3 p53 hT3 F3 s3 m3 => ?_)
  have hs3 := h0.keepAll hT3.1 F3 (fun a q => q)
  rw [gR_ok (okf hs3.isK (by decide)), hs3.k1.2.2.1]
  refine wp_bR (wp_ifc hs3.k3.1 (wp_mono (AL.iterator hT3.1 hT3.2.1.lt hs3.k3) (fun r4 hr4 => ?_)))
  obtain ⟨b1, b2, b3, b4, b5, b6⟩ := hr4
  have fc4 := b3.toC hT3.1 (fun _ _ q => q.elim)
  rw [b1] at b2
  rw [b1]
  have F4 := F3.trans fc4 hw (fun _ q => q.elim)
  have l3 := F3.le
  have hT4 := hT3.guard b4 fc4 (fun _ q => q.elim) (it := hS r3) (Nat.le_refl _) (by omega)
  have o53 : gt3 5 < hS r3 := hT3.1.k (by
    obtain ⟨_, _, _, _, own, k⟩ := hT3
    obtain ⟨L5, q1, _⟩ := k.2.2.2.2.2.1
    exact q1.1.1) (by decide)
  have p54 : hR r4.2 15 (gt3 5) = γ.1 0 := by rw [fc4.rR o53 (fun q => q) (by decide)]; exact p53
  refine copyLoop2 h0 (fun a q => q.1.1) (fun q => q.2 rfl) (by omega) FU 0 r4.2 gt3 _ _ (by show _ < 4294967296; omega) (Nat.zero_le _) F4 hT4 b2 e3 p54 (fun r5 gt5 tr5 et5 e5 p55 hT5 F5 s5 m5 => ?_)
  have hs5 := h0.keepAll hT5.1 F5 (fun a q => q)
  have kk5 := hT5.k1
  rw [e5] at kk5
  rw [gR_ok (okf kk5.1 (by decide)), kk5.2.2.2.1, gR_ok (okf hs5.isK (by decide)), hs5.k1.2.2.2.1]
  refine copyHost h0 F5 hT5 (fun a q => q.1.1) o.2.2.2.2 (o.1 0 (by decide)) (show (if (0 : Nat) = 0 then [] else sl S 0) = [] from if_pos rfl) p55 (fun r6 hT6 s6 => ?_)
  have F6 : Fc (fun a => hS G ≤ a) G r6 := F5.trans s6.1 hw (fun a q => Or.inl q.1.1)
  have hs6 := h0.keepAll hT6.1 F6 (fun a q => q)
  have kk6 := hT6.k1
  rw [e5] at kk6
  rw [gR_ok (okf kk6.1 (by decide)), kk6.2.2.2.2.1, gR_ok (okf hs6.isK (by decide)), hs6.k1.2.2.2.2.1]
  refine copyMsgs h0 F6 hT6 (fun a q => q.1.1) hl (fun r7 hT7 s7 => ?_)
  have F7 : Fc (fun a => hS G ≤ a) G r7 := F6.trans s7.1 hw (fun a q => Or.inl q.1.1)
  have hs7 := h0.keepAll hT7.1 F7 (fun a q => q)
  rw [gI_ok (okf hs7.isK (by decide)), hs7.k1.2.2.2.2.2.1, ← e5]
  refine hT7.pMin (fun h8 s8 => ?_)
  have F8 : Fc (fun a => hS G ≤ a) G (sI r7 12 (gt5 1) (sg S 0)) := F7.trans s8.1 hw (fun a q => Or.inl q.1.1)
  have hs8 := h0.keepAll h8.1 F8 (fun a q => q)
  rw [gI_ok (okf hs8.isK (by decide)), hs8.k1.2.2.2.2.2.2.1]
  refine h8.pLost (fun h9 s9 => wp_some ?_)
  have F9 : Fc (fun a => hS G ≤ a) G (sI (sI r7 12 (gt5 1) (sg S 0)) 13 (gt5 1) (sg S 4)) := F8.trans s9.1 hw (fun a q => Or.inl q.1.1)
  rw [copy_end] at h9
  have st := (s6.trans hT5.1 s7).trans hT5.1 (s8.trans hT7.1 s9)
  have st1 := st.2.2.1
  have st2 := st.2.2.2
  rw [e5] at h9 F9 st1 st2 ⊢
  refine ⟨rfl, ⟨gt5, tr5, et5, e5, h9.mono (fun a q => q.1.1) (fun a q => by omega)⟩, F9, h9.1, ?_, ?_⟩
  · show hS (sI (sI r7 12 (hS G) (sg S 0)) 13 (hS G) (sg S 4)) ≤ _
    omega
  · show hM (sI (sI r7 12 (hS G) (sg S 0)) 13 (hS G) (sg S 4)) ≤ _
    omega
end C28
