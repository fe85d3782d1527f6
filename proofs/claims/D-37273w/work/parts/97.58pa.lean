-- C
set_option maxRecDepth 100000
/-! THE READER: patterns, the loop over items -/
section PA
variable {d i a n q x b m c cap cap' c0 c1 st0 st1 cf : Nat} {b1 : Int} {M : GMeth} {ls : GL} {st : List GV} {xs xs' : List (Option Nat)} {ps qs : List SPart} {p : SPart} {s l l1 f acc : List Int} {S S0 S1 S' : BS} {F : Nat → Prop} {Q : GO → BS → Prop} {y : Option Nat} {o : Obj} {R : PR (Nat × Nat × List SPart)} {r : GO}
theorem C_patNew (hn : Ob S n (oOwn 9)) (h1000 : 1000 ≤ n) : BMr (d + 4) gk_X7_init [aR n] S (fun r S' => r = none ∧ ∃ q u w, (S.1 q = oNil ∧ S.1 u = oNil ∧ S.1 w = oNil ∧ u ≠ w) ∧ Fr1 S S' n 45 ∧ Ob S' n (oOwn 9) ∧ Ob S' q (oAl [] 0) ∧ Ob S' u (oIa [0, 0, 0]) ∧ Ob S' w (oIa [0, 0, 0]) ∧ Fe S' 66 n (some q) ∧ Fe S' 69 n (some u) ∧ Fe S' 70 n (some w) ∧ ∀ F, S'.2.1 F n = S.2.1 F n) := by
  obtain ⟨H, fi, fr, t⟩ := S
  refine BMr.mono (B_patNew (d := d) hn h1000) (fun r S' ⟨h1, q, u, w, H1, H2, hq, e1, hu, e2, hw, e3⟩ => ⟨h1, q, u, w, ?_⟩)
  have hn : H n = oOwn 9 := hn
  have hqn : H q = oNil := hq.2.1
  have hqu : u ≠ q := fun z => by
    have := hu.2.1
    rw [z, e1, upH_eq] at this
    exact oNe (o := oAl [] 0) (o' := oNil) rfl this
  have hun : H u = oNil := by
    have := hu.2.1
    rw [e1, upH_ne hqu, upH_ne hqu] at this
    exact this
  have hwu : w ≠ u := fun z => by
    have := hw.2.1
    rw [z, e2, upH_eq] at this
    exact oNe (o := oIa (List.replicate 3 0)) (o' := oNil) rfl this
  have hwq : w ≠ q := fun z => by
    have := hw.2.1
    rw [e2, upH_ne hwu, z, e1, upH_eq] at this
    exact oNe (o := oAl [] 0) (o' := oNil) rfl this
  have hwn : H w = oNil := by
    have := hw.2.1
    rw [e2, upH_ne hwu, e1, upH_ne hwq, upH_ne hwq] at this
    exact this
  have key : ∀ m, m ≠ q → m ≠ u → m ≠ w → S'.1 m = H m := fun m a b c => by
    rw [e3]
    show upH H2 w _ m = H m
    rw [upH_ne c, e2, upH_ne b, e1, upH_ne a, upH_ne a]
  have ne : ∀ m k, H m ≠ oNil → H k = oNil → m ≠ k := fun m k a b c => a (c ▸ b)
  have hnn : H n ≠ oNil := by rw [hn]; exact oNe rfl
  have oq : S'.1 q = oAl [] 0 := by
    rw [e3]
    show upH H2 w _ q = _
    rw [upH_ne (Ne.symm hwq), e2, upH_ne (Ne.symm hqu), e1, upH_eq]
  have ou : S'.1 u = oIa [0, 0, 0] := by
    rw [e3]
    show upH H2 w _ u = _
    rw [upH_ne (Ne.symm hwu), e2, upH_eq]; rfl
  have ow : S'.1 w = oIa [0, 0, 0] := by
    rw [e3]
    show upH H2 w _ w = _
    rw [upH_eq]; rfl
  refine ⟨⟨hqn, hun, hwn, Ne.symm hwu⟩, ⟨fun m hm => ?_, fun m hm hmn => ⟨?_, fun F hF => ⟨?_, ?_⟩⟩, ?_⟩, ?_, oq, ou, ow, ?_, ?_, ?_, fun F => by rw [e3]⟩
  · by_cases a : m = q
    · rw [a, oq]; exact oNe rfl
    by_cases b : m = u
    · rw [b, ou]; exact oNe rfl
    by_cases c : m = w
    · rw [c, ow]; exact oNe rfl
    rw [key m a b c]; exact hm
  · exact key m (ne m q hm hqn) (ne m u hm hun) (ne m w hm hwn)
  · rw [e3]
  · rw [e3]
    show upR (upR (upR fr 66 n (some q)) 69 n (some u)) 70 n (some w) F m = fr F m
    unfold upR
    rw [if_neg (fun z => hmn z.2), if_neg (fun z => hmn z.2), if_neg (fun z => hmn z.2)]
  · rw [e3]
    show t + (12 + 3) + (12 + 3) + (12 + 3) ≤ t + 45
    omega
  · exact (key n (ne n q hnn hqn) (ne n u hnn hun) (ne n w hnn hwn)).trans hn
  · rw [e3]
    show upR (upR (upR fr 66 n (some q)) 69 n (some u)) 70 n (some w) 66 n = _
    unfold upR; simp
  · rw [e3]
    show upR (upR (upR fr 66 n (some q)) 69 n (some u)) 70 n (some w) 69 n = _
    unfold upR; simp
  · rw [e3]
    show upR (upR (upR fr 66 n (some q)) 69 n (some u)) 70 n (some w) 70 n = _
    unfold upR; simp
def toR (c0 st0 : Nat) (l : List Int) : PR (Nat × Nat × List SPart) := if 0 < c0 then (if 49 ≤ hd l.tail ∧ hd l.tail ≤ 48 + (c0 : Int) then .inr (l.tail.tail, c0, st0, [(6, (hd l.tail - 48).toNat, [], false)]) else .inl l.tail) else .inl l
theorem pItem_is {closed stars : Nat} : pItem closed stars l = if hd l = 40 then grR closed stars l else if hd l = 92 then toR closed stars l else plR closed stars l := rfl
theorem pItems_x {e : Int} {k closed stars : Nat} {acc : List SPart} (h : hd l = 36 ∨ hd l = e ∨ l = []) : pItems e k closed stars acc l = .inr (l, closed, acc) := by
  cases k <;> (unfold pItems; exact if_pos h)
theorem pItems_0 {e : Int} {closed stars : Nat} {acc : List SPart} (h : ¬ (hd l = 36 ∨ hd l = e ∨ l = [])) : pItems e 0 closed stars acc l = .inl l := by
  unfold pItems; exact if_neg h
theorem pItems_f {e : Int} {k closed stars : Nat} {acc : List SPart} (h : ¬ (hd l = 36 ∨ hd l = e ∨ l = [])) (h2 : pItem closed stars l = .inl f) : pItems e (k + 1) closed stars acc l = .inl f := by
  unfold pItems
  rw [if_neg h, h2]
theorem pItems_s {e : Int} {k closed stars : Nat} {acc qs : List SPart} (h : ¬ (hd l = 36 ∨ hd l = e ∨ l = [])) (h2 : pItem closed stars l = .inr (l1, c1, st1, qs)) : pItems e (k + 1) closed stars acc l = pItems e k c1 st1 (acc ++ qs) l1 := by
  conv => lhs; unfold pItems
  rw [if_neg h, h2]
theorem pGrp_st : ∀ (k st0 : Nat) (acc : List SPart) (l l1 : List Int) (st1 : Nat) (ps : List SPart), pGrp k st0 acc l = .inr (l1, st1, ps) → st0 ≤ 2 → st1 ≤ 2 := by
  intro k
  induction k with
  | zero =>
    intro st0 acc l l1 st1 ps h hs
    unfold pGrp at h
    split at h
    · cases h; exact hs
    · cases h
  | succ k ih =>
    intro st0 acc l l1 st1 ps h hs
    by_cases z : hd l = 41
    · rw [pGrp_end z] at h
      cases h; exact hs
    · cases e : pPlain st0 l with
      | inl f => rw [pGrp_f z e] at h; cases h
      | inr y =>
        obtain ⟨l2, st2, pt⟩ := y
        rw [pGrp_s z e] at h
        exact ih _ _ _ _ _ _ h (pPlain_st e hs)
theorem pItem_ok {closed stars c1 st1 : Nat} (h : pItem closed stars l = .inr (l1, c1, st1, qs)) (hc : closed ≤ 2) (hs : stars ≤ 2) : c1 ≤ 2 ∧ st1 ≤ 2 ∧ qs ≠ [] := by
  rw [pItem_is] at h
  split at h
  · unfold grR at h
    split at h
    · rename_i z
      cases e : pGrp 12 stars [] l.tail with
      | inl f => rw [e] at h; cases h
      | inr y =>
        obtain ⟨l2, st2, pt⟩ := y
        rw [e] at h
        have h2 := pGrp_st _ _ _ _ _ _ _ e hs
        cases h
        exact ⟨by omega, h2, by simp⟩
    · cases h
  · split at h
    · unfold toR at h
      repeat' (split at h)
      all_goals first | (cases h; done) | (cases h; exact ⟨hc, hs, by simp⟩)
    · unfold plR at h
      cases e : pPlain stars l with
      | inl f => rw [e] at h; cases h
      | inr y =>
        obtain ⟨l2, st2, pt⟩ := y
        rw [e] at h
        have h2 := pPlain_st e hs
        cases h
        exact ⟨hc, h2, by simp⟩
end PA
